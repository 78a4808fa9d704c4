/-! InsuredFlameModel -/
set_option maxRecDepth 100000
def RX6 : String := "InsuredFlameModel"
def TX6 : u_T := fun k => match k with
  | 0 => ("InsuredFlameModel", "now", "[I", true)
  | 1 => ("InsuredFlameModel", "aside", "[I", true)
  | 2 => ("InsuredFlameModel", "kept", "[I", true)
  | 3 => ("InsuredFlameModel", "kindOf", "[I", true)
  | 4 => ("InsuredFlameModel", "wasKind", "[I", true)
  | 5 => ("InsuredFlameModel", "tape", "[B", true)
  | 6 => ("InsuredFlameModel", "taped", "I", false)
  | 7 => ("InsuredFlameModel", "place0", "I", false)
  | 8 => ("InsuredFlameModel", "length0", "I", false)
  | 9 => ("InsuredFlameModel", "fault", "I", false)
  | 10 => ("InsuredFlameModel", "number0", "I", false)
  | 11 => ("InsuredFlameModel", "open", "I", false)
  | 12 => ("InsuredFlameModel", "codeMany", "I", false)
  | 13 => ("InsuredFlameModel", "waiting", "I", false)
  | 14 => ("InsuredFlameModel", "saidMany", "I", false)
  | 15 => ("InsuredFlameModel", "clauses", "I", false)
  | 16 => ("InsuredFlameModel", "said", "[I", true)
  | 17 => ("InsuredFlameModel", "waitsAt", "[I", true)
  | 18 => ("InsuredFlameModel", "saidLetter", "[I", true)
  | 19 => ("InsuredFlameModel", "saidFrom", "[I", true)
  | 20 => ("InsuredFlameModel", "saidHalf", "[I", true)
  | 21 => ("InsuredFlameModel", "saidTo", "[I", true)
  | 22 => ("InsuredFlameModel", "codes", "[I", true)
  | 23 => ("InsuredFlameModel", "clauseOf", "[I", true)
  | 24 => ("InsuredFlameModel", "codeFrom", "[I", true)
  | 25 => ("InsuredFlameModel", "codeHalf", "[I", true)
  | 26 => ("InsuredFlameModel", "codeTo", "[I", true)
  | 27 => ("InsuredFlameModel", "stack", "[I", true)
  | 28 => ("InsuredFlameModel", "facts", "[I", true)
  | 29 => ("InsuredFlameModel", "newKinds", "[I", true)
  | 30 => ("InsuredFlameModel", "lines", "I", false)
  | 31 => ("InsuredFlameModel", "spot0", "I", false)
  | 32 => ("InsuredFlameModel", "spotFrom", "I", false)
  | 33 => ("InsuredFlameModel", "didBurn", "[Z", true)
  | 34 => ("InsuredFlameModel", "lostNow", "I", false)
  | 35 => ("InsuredFlameModel", "fireAt", "[I", true)
  | 36 => ("InsuredFlameModel", "queue", "[I", true)
  | 37 => ("InsuredFlameModel", "aheadOf", "[I", true)
  | 38 => ("InsuredFlameModel", "behindOf", "[I", true)
  | 39 => ("InsuredFlameModel", "cameBy", "[I", true)
  | 40 => ("InsuredFlameModel", "tail0", "I", false)
  | 41 => ("InsuredFlameModel", "rowNow", "[I", true)
  | 42 => ("InsuredFlameModel", "hereAt", "[I", true)
  | 43 => ("InsuredFlameModel", "walkers", "[I", true)
  | 44 => ("InsuredFlameModel", "rowBy", "[I", true)
  | _ => ("InsuredFlameModel", "isKept", "Z", false)
def tyX6 : Nat → FieldType := fun k => match k with
  | 0 => .array .int
  | 1 => .array .int
  | 2 => .array .int
  | 3 => .array .int
  | 4 => .array .int
  | 5 => .array .byte
  | 6 => .int
  | 7 => .int
  | 8 => .int
  | 9 => .int
  | 10 => .int
  | 11 => .int
  | 12 => .int
  | 13 => .int
  | 14 => .int
  | 15 => .int
  | 16 => .array .int
  | 17 => .array .int
  | 18 => .array .int
  | 19 => .array .int
  | 20 => .array .int
  | 21 => .array .int
  | 22 => .array .int
  | 23 => .array .int
  | 24 => .array .int
  | 25 => .array .int
  | 26 => .array .int
  | 27 => .array .int
  | 28 => .array .int
  | 29 => .array .int
  | 30 => .int
  | 31 => .int
  | 32 => .int
  | 33 => .array .boolean
  | 34 => .int
  | 35 => .array .int
  | 36 => .array .int
  | 37 => .array .int
  | 38 => .array .int
  | 39 => .array .int
  | 40 => .int
  | 41 => .array .int
  | 42 => .array .int
  | 43 => .array .int
  | 44 => .array .int
  | _ => .boolean
abbrev wsX60 : List Cond := u_ws RX6 TX6 46
set_option maxRecDepth 100000 in
theorem nmX6 : ∀ a, a < 46 → ∀ b, b < 46 → a ≠ b → (TX6 a).2.1 ≠ (TX6 b).2.1 := by decide +kernel
set_option maxRecDepth 100000 in
theorem tyX6_ok : ∀ k, k < 46 → parseFieldDescriptor (TX6 k).2.2.1 = some (tyX6 k) := by decide +kernel
abbrev cX6_init : ByteArray := prog_20_method_1_code
def yX6_init : MethodName := ⟨RX6, "<init>", "()V"⟩
def dkwX6_init_11 : List UInt8 := [17, 1, 58, 4, 79, 177]
abbrev dktX6_init_11 : List UInt8 := dkwX6_init_11 ++ []
def dkwX6_init_10 : List UInt8 := [181, 0, 93, 42, 16, 96, 188, 10, 181, 0, 96, 42, 16, 10, 188, 10, 181, 0, 99, 42, 180, 0, 7]
abbrev dktX6_init_10 : List UInt8 := dkwX6_init_10 ++ dktX6_init_11
def dkwX6_init_9 : List UInt8 := [42, 17, 0, 192, 188, 10, 181, 0, 87, 42, 17, 0, 192, 188, 10, 181, 0, 90, 42, 16, 96, 188, 10]
abbrev dktX6_init_9 : List UInt8 := dkwX6_init_9 ++ dktX6_init_10
def dkwX6_init_8 : List UInt8 := [17, 0, 192, 188, 10, 181, 0, 78, 42, 16, 96, 188, 10, 181, 0, 81, 42, 16, 96, 188, 10, 181, 0, 84]
abbrev dktX6_init_8 : List UInt8 := dkwX6_init_8 ++ dktX6_init_9
def dkwX6_init_7 : List UInt8 := [16, 96, 188, 10, 181, 0, 68, 42, 16, 96, 188, 4, 181, 0, 71, 42, 16, 96, 188, 10, 181, 0, 75, 42]
abbrev dktX6_init_7 : List UInt8 := dkwX6_init_7 ++ dktX6_init_8
def dkwX6_init_6 : List UInt8 := [188, 10, 181, 0, 59, 42, 17, 1, 4, 188, 10, 181, 0, 62, 42, 16, 9, 188, 10, 181, 0, 65, 42]
abbrev dktX6_init_6 : List UInt8 := dkwX6_init_6 ++ dktX6_init_7
def dkwX6_init_5 : List UInt8 := [188, 10, 181, 0, 50, 42, 16, 16, 188, 10, 181, 0, 53, 42, 16, 16, 188, 10, 181, 0, 56, 42, 16, 16]
abbrev dktX6_init_5 : List UInt8 := dkwX6_init_5 ++ dktX6_init_6
def dkwX6_init_4 : List UInt8 := [181, 0, 41, 42, 16, 16, 188, 10, 181, 0, 44, 42, 17, 1, 4, 188, 10, 181, 0, 47, 42, 16, 16]
abbrev dktX6_init_4 : List UInt8 := dkwX6_init_4 ++ dktX6_init_5
def dkwX6_init_3 : List UInt8 := [181, 0, 32, 42, 16, 16, 188, 10, 181, 0, 35, 42, 16, 16, 188, 10, 181, 0, 38, 42, 16, 16, 188, 10]
abbrev dktX6_init_3 : List UInt8 := dkwX6_init_3 ++ dktX6_init_4
def dkwX6_init_2 : List UInt8 := [42, 17, 1, 4, 188, 8, 181, 0, 25, 42, 17, 1, 4, 188, 10, 181, 0, 29, 42, 17, 1, 4, 188, 10]
abbrev dktX6_init_2 : List UInt8 := dkwX6_init_2 ++ dktX6_init_3
def dkwX6_init_1 : List UInt8 := [17, 1, 59, 188, 10, 181, 0, 16, 42, 16, 96, 188, 10, 181, 0, 19, 42, 16, 96, 188, 10, 181, 0, 22]
abbrev dktX6_init_1 : List UInt8 := dkwX6_init_1 ++ dktX6_init_2
def dkwX6_init_0 : List UInt8 := [42, 183, 0, 1, 42, 17, 1, 59, 188, 10, 181, 0, 7, 42, 17, 1, 59, 188, 10, 181, 0, 13, 42]
abbrev dktX6_init_0 : List UInt8 := dkwX6_init_0 ++ dktX6_init_1
theorem dksX6_init_0 : cX6_init.data.toList.drop 0 = dktX6_init_0 := by decide +kernel
theorem dksX6_init_1 : cX6_init.data.toList.drop 23 = dktX6_init_1 := dk_seg dksX6_init_0 23 rfl rfl
theorem dksX6_init_2 : cX6_init.data.toList.drop 47 = dktX6_init_2 := dk_seg dksX6_init_1 24 rfl rfl
theorem dksX6_init_3 : cX6_init.data.toList.drop 71 = dktX6_init_3 := dk_seg dksX6_init_2 24 rfl rfl
theorem dksX6_init_4 : cX6_init.data.toList.drop 95 = dktX6_init_4 := dk_seg dksX6_init_3 24 rfl rfl
theorem dksX6_init_5 : cX6_init.data.toList.drop 118 = dktX6_init_5 := dk_seg dksX6_init_4 23 rfl rfl
theorem dksX6_init_6 : cX6_init.data.toList.drop 142 = dktX6_init_6 := dk_seg dksX6_init_5 24 rfl rfl
theorem dksX6_init_7 : cX6_init.data.toList.drop 165 = dktX6_init_7 := dk_seg dksX6_init_6 23 rfl rfl
theorem dksX6_init_8 : cX6_init.data.toList.drop 189 = dktX6_init_8 := dk_seg dksX6_init_7 24 rfl rfl
theorem dksX6_init_9 : cX6_init.data.toList.drop 213 = dktX6_init_9 := dk_seg dksX6_init_8 24 rfl rfl
theorem dksX6_init_10 : cX6_init.data.toList.drop 236 = dktX6_init_10 := dk_seg dksX6_init_9 23 rfl rfl
theorem dksX6_init_11 : cX6_init.data.toList.drop 259 = dktX6_init_11 := dk_seg dksX6_init_10 23 rfl rfl
theorem dX6_init_0 : decode cX6_init 0 = .ok (.aload_n 0, 1) := dk_42 (dk_at dksX6_init_0 0 rfl rfl)
theorem dX6_init_1 : decode cX6_init 1 = .ok (.invokespecial 1, 3) := dk_183 0 1 (dk_at dksX6_init_0 1 rfl rfl)
theorem dX6_init_4 : decode cX6_init 4 = .ok (.aload_n 0, 1) := dk_42 (dk_at dksX6_init_0 4 rfl rfl)
theorem dX6_init_5 : decode cX6_init 5 = .ok (.sipush 315, 3) := dk_17 1 59 (dk_at dksX6_init_0 5 rfl rfl)
theorem dX6_init_8 : decode cX6_init 8 = .ok (.newarray .int, 2) := dk_188_10 (dk_at dksX6_init_0 8 rfl rfl)
theorem dX6_init_10 : decode cX6_init 10 = .ok (.putfield 7, 3) := dk_181 0 7 (dk_at dksX6_init_0 10 rfl rfl)
theorem dX6_init_13 : decode cX6_init 13 = .ok (.aload_n 0, 1) := dk_42 (dk_at dksX6_init_0 13 rfl rfl)
theorem dX6_init_14 : decode cX6_init 14 = .ok (.sipush 315, 3) := dk_17 1 59 (dk_at dksX6_init_0 14 rfl rfl)
theorem dX6_init_17 : decode cX6_init 17 = .ok (.newarray .int, 2) := dk_188_10 (dk_at dksX6_init_0 17 rfl rfl)
theorem dX6_init_19 : decode cX6_init 19 = .ok (.putfield 13, 3) := dk_181 0 13 (dk_at dksX6_init_0 19 rfl rfl)
theorem dX6_init_22 : decode cX6_init 22 = .ok (.aload_n 0, 1) := dk_42 (dk_at dksX6_init_0 22 rfl rfl)
theorem dX6_init_23 : decode cX6_init 23 = .ok (.sipush 315, 3) := dk_17 1 59 (dk_at dksX6_init_1 0 rfl rfl)
theorem dX6_init_26 : decode cX6_init 26 = .ok (.newarray .int, 2) := dk_188_10 (dk_at dksX6_init_1 3 rfl rfl)
theorem dX6_init_28 : decode cX6_init 28 = .ok (.putfield 16, 3) := dk_181 0 16 (dk_at dksX6_init_1 5 rfl rfl)
theorem dX6_init_31 : decode cX6_init 31 = .ok (.aload_n 0, 1) := dk_42 (dk_at dksX6_init_1 8 rfl rfl)
theorem dX6_init_32 : decode cX6_init 32 = .ok (.bipush 96, 2) := dk_16 96 (dk_at dksX6_init_1 9 rfl rfl)
theorem dX6_init_34 : decode cX6_init 34 = .ok (.newarray .int, 2) := dk_188_10 (dk_at dksX6_init_1 11 rfl rfl)
theorem dX6_init_36 : decode cX6_init 36 = .ok (.putfield 19, 3) := dk_181 0 19 (dk_at dksX6_init_1 13 rfl rfl)
theorem dX6_init_39 : decode cX6_init 39 = .ok (.aload_n 0, 1) := dk_42 (dk_at dksX6_init_1 16 rfl rfl)
theorem dX6_init_40 : decode cX6_init 40 = .ok (.bipush 96, 2) := dk_16 96 (dk_at dksX6_init_1 17 rfl rfl)
theorem dX6_init_42 : decode cX6_init 42 = .ok (.newarray .int, 2) := dk_188_10 (dk_at dksX6_init_1 19 rfl rfl)
theorem dX6_init_44 : decode cX6_init 44 = .ok (.putfield 22, 3) := dk_181 0 22 (dk_at dksX6_init_1 21 rfl rfl)
theorem dX6_init_47 : decode cX6_init 47 = .ok (.aload_n 0, 1) := dk_42 (dk_at dksX6_init_2 0 rfl rfl)
theorem dX6_init_48 : decode cX6_init 48 = .ok (.sipush 260, 3) := dk_17 1 4 (dk_at dksX6_init_2 1 rfl rfl)
theorem dX6_init_51 : decode cX6_init 51 = .ok (.newarray .byte, 2) := dk_188_8 (dk_at dksX6_init_2 4 rfl rfl)
theorem dX6_init_53 : decode cX6_init 53 = .ok (.putfield 25, 3) := dk_181 0 25 (dk_at dksX6_init_2 6 rfl rfl)
theorem dX6_init_56 : decode cX6_init 56 = .ok (.aload_n 0, 1) := dk_42 (dk_at dksX6_init_2 9 rfl rfl)
theorem dX6_init_57 : decode cX6_init 57 = .ok (.sipush 260, 3) := dk_17 1 4 (dk_at dksX6_init_2 10 rfl rfl)
theorem dX6_init_60 : decode cX6_init 60 = .ok (.newarray .int, 2) := dk_188_10 (dk_at dksX6_init_2 13 rfl rfl)
theorem dX6_init_62 : decode cX6_init 62 = .ok (.putfield 29, 3) := dk_181 0 29 (dk_at dksX6_init_2 15 rfl rfl)
theorem dX6_init_65 : decode cX6_init 65 = .ok (.aload_n 0, 1) := dk_42 (dk_at dksX6_init_2 18 rfl rfl)
theorem dX6_init_66 : decode cX6_init 66 = .ok (.sipush 260, 3) := dk_17 1 4 (dk_at dksX6_init_2 19 rfl rfl)
theorem dX6_init_69 : decode cX6_init 69 = .ok (.newarray .int, 2) := dk_188_10 (dk_at dksX6_init_2 22 rfl rfl)
theorem dX6_init_71 : decode cX6_init 71 = .ok (.putfield 32, 3) := dk_181 0 32 (dk_at dksX6_init_3 0 rfl rfl)
theorem dX6_init_74 : decode cX6_init 74 = .ok (.aload_n 0, 1) := dk_42 (dk_at dksX6_init_3 3 rfl rfl)
theorem dX6_init_75 : decode cX6_init 75 = .ok (.bipush 16, 2) := dk_16 16 (dk_at dksX6_init_3 4 rfl rfl)
theorem dX6_init_77 : decode cX6_init 77 = .ok (.newarray .int, 2) := dk_188_10 (dk_at dksX6_init_3 6 rfl rfl)
theorem dX6_init_79 : decode cX6_init 79 = .ok (.putfield 35, 3) := dk_181 0 35 (dk_at dksX6_init_3 8 rfl rfl)
theorem dX6_init_82 : decode cX6_init 82 = .ok (.aload_n 0, 1) := dk_42 (dk_at dksX6_init_3 11 rfl rfl)
theorem dX6_init_83 : decode cX6_init 83 = .ok (.bipush 16, 2) := dk_16 16 (dk_at dksX6_init_3 12 rfl rfl)
theorem dX6_init_85 : decode cX6_init 85 = .ok (.newarray .int, 2) := dk_188_10 (dk_at dksX6_init_3 14 rfl rfl)
theorem dX6_init_87 : decode cX6_init 87 = .ok (.putfield 38, 3) := dk_181 0 38 (dk_at dksX6_init_3 16 rfl rfl)
theorem dX6_init_90 : decode cX6_init 90 = .ok (.aload_n 0, 1) := dk_42 (dk_at dksX6_init_3 19 rfl rfl)
theorem dX6_init_91 : decode cX6_init 91 = .ok (.bipush 16, 2) := dk_16 16 (dk_at dksX6_init_3 20 rfl rfl)
theorem dX6_init_93 : decode cX6_init 93 = .ok (.newarray .int, 2) := dk_188_10 (dk_at dksX6_init_3 22 rfl rfl)
theorem dX6_init_95 : decode cX6_init 95 = .ok (.putfield 41, 3) := dk_181 0 41 (dk_at dksX6_init_4 0 rfl rfl)
theorem dX6_init_98 : decode cX6_init 98 = .ok (.aload_n 0, 1) := dk_42 (dk_at dksX6_init_4 3 rfl rfl)
theorem dX6_init_99 : decode cX6_init 99 = .ok (.bipush 16, 2) := dk_16 16 (dk_at dksX6_init_4 4 rfl rfl)
theorem dX6_init_101 : decode cX6_init 101 = .ok (.newarray .int, 2) := dk_188_10 (dk_at dksX6_init_4 6 rfl rfl)
theorem dX6_init_103 : decode cX6_init 103 = .ok (.putfield 44, 3) := dk_181 0 44 (dk_at dksX6_init_4 8 rfl rfl)
theorem dX6_init_106 : decode cX6_init 106 = .ok (.aload_n 0, 1) := dk_42 (dk_at dksX6_init_4 11 rfl rfl)
theorem dX6_init_107 : decode cX6_init 107 = .ok (.sipush 260, 3) := dk_17 1 4 (dk_at dksX6_init_4 12 rfl rfl)
theorem dX6_init_110 : decode cX6_init 110 = .ok (.newarray .int, 2) := dk_188_10 (dk_at dksX6_init_4 15 rfl rfl)
theorem dX6_init_112 : decode cX6_init 112 = .ok (.putfield 47, 3) := dk_181 0 47 (dk_at dksX6_init_4 17 rfl rfl)
theorem dX6_init_115 : decode cX6_init 115 = .ok (.aload_n 0, 1) := dk_42 (dk_at dksX6_init_4 20 rfl rfl)
theorem dX6_init_116 : decode cX6_init 116 = .ok (.bipush 16, 2) := dk_16 16 (dk_at dksX6_init_4 21 rfl rfl)
theorem dX6_init_118 : decode cX6_init 118 = .ok (.newarray .int, 2) := dk_188_10 (dk_at dksX6_init_5 0 rfl rfl)
theorem dX6_init_120 : decode cX6_init 120 = .ok (.putfield 50, 3) := dk_181 0 50 (dk_at dksX6_init_5 2 rfl rfl)
theorem dX6_init_123 : decode cX6_init 123 = .ok (.aload_n 0, 1) := dk_42 (dk_at dksX6_init_5 5 rfl rfl)
theorem dX6_init_124 : decode cX6_init 124 = .ok (.bipush 16, 2) := dk_16 16 (dk_at dksX6_init_5 6 rfl rfl)
theorem dX6_init_126 : decode cX6_init 126 = .ok (.newarray .int, 2) := dk_188_10 (dk_at dksX6_init_5 8 rfl rfl)
theorem dX6_init_128 : decode cX6_init 128 = .ok (.putfield 53, 3) := dk_181 0 53 (dk_at dksX6_init_5 10 rfl rfl)
theorem dX6_init_131 : decode cX6_init 131 = .ok (.aload_n 0, 1) := dk_42 (dk_at dksX6_init_5 13 rfl rfl)
theorem dX6_init_132 : decode cX6_init 132 = .ok (.bipush 16, 2) := dk_16 16 (dk_at dksX6_init_5 14 rfl rfl)
theorem dX6_init_134 : decode cX6_init 134 = .ok (.newarray .int, 2) := dk_188_10 (dk_at dksX6_init_5 16 rfl rfl)
theorem dX6_init_136 : decode cX6_init 136 = .ok (.putfield 56, 3) := dk_181 0 56 (dk_at dksX6_init_5 18 rfl rfl)
theorem dX6_init_139 : decode cX6_init 139 = .ok (.aload_n 0, 1) := dk_42 (dk_at dksX6_init_5 21 rfl rfl)
theorem dX6_init_140 : decode cX6_init 140 = .ok (.bipush 16, 2) := dk_16 16 (dk_at dksX6_init_5 22 rfl rfl)
theorem dX6_init_142 : decode cX6_init 142 = .ok (.newarray .int, 2) := dk_188_10 (dk_at dksX6_init_6 0 rfl rfl)
theorem dX6_init_144 : decode cX6_init 144 = .ok (.putfield 59, 3) := dk_181 0 59 (dk_at dksX6_init_6 2 rfl rfl)
theorem dX6_init_147 : decode cX6_init 147 = .ok (.aload_n 0, 1) := dk_42 (dk_at dksX6_init_6 5 rfl rfl)
theorem dX6_init_148 : decode cX6_init 148 = .ok (.sipush 260, 3) := dk_17 1 4 (dk_at dksX6_init_6 6 rfl rfl)
theorem dX6_init_151 : decode cX6_init 151 = .ok (.newarray .int, 2) := dk_188_10 (dk_at dksX6_init_6 9 rfl rfl)
theorem dX6_init_153 : decode cX6_init 153 = .ok (.putfield 62, 3) := dk_181 0 62 (dk_at dksX6_init_6 11 rfl rfl)
theorem dX6_init_156 : decode cX6_init 156 = .ok (.aload_n 0, 1) := dk_42 (dk_at dksX6_init_6 14 rfl rfl)
theorem dX6_init_157 : decode cX6_init 157 = .ok (.bipush 9, 2) := dk_16 9 (dk_at dksX6_init_6 15 rfl rfl)
theorem dX6_init_159 : decode cX6_init 159 = .ok (.newarray .int, 2) := dk_188_10 (dk_at dksX6_init_6 17 rfl rfl)
theorem dX6_init_161 : decode cX6_init 161 = .ok (.putfield 65, 3) := dk_181 0 65 (dk_at dksX6_init_6 19 rfl rfl)
theorem dX6_init_164 : decode cX6_init 164 = .ok (.aload_n 0, 1) := dk_42 (dk_at dksX6_init_6 22 rfl rfl)
theorem dX6_init_165 : decode cX6_init 165 = .ok (.bipush 96, 2) := dk_16 96 (dk_at dksX6_init_7 0 rfl rfl)
theorem dX6_init_167 : decode cX6_init 167 = .ok (.newarray .int, 2) := dk_188_10 (dk_at dksX6_init_7 2 rfl rfl)
theorem dX6_init_169 : decode cX6_init 169 = .ok (.putfield 68, 3) := dk_181 0 68 (dk_at dksX6_init_7 4 rfl rfl)
theorem dX6_init_172 : decode cX6_init 172 = .ok (.aload_n 0, 1) := dk_42 (dk_at dksX6_init_7 7 rfl rfl)
theorem dX6_init_173 : decode cX6_init 173 = .ok (.bipush 96, 2) := dk_16 96 (dk_at dksX6_init_7 8 rfl rfl)
theorem dX6_init_175 : decode cX6_init 175 = .ok (.newarray .boolean, 2) := dk_188_4 (dk_at dksX6_init_7 10 rfl rfl)
theorem dX6_init_177 : decode cX6_init 177 = .ok (.putfield 71, 3) := dk_181 0 71 (dk_at dksX6_init_7 12 rfl rfl)
theorem dX6_init_180 : decode cX6_init 180 = .ok (.aload_n 0, 1) := dk_42 (dk_at dksX6_init_7 15 rfl rfl)
theorem dX6_init_181 : decode cX6_init 181 = .ok (.bipush 96, 2) := dk_16 96 (dk_at dksX6_init_7 16 rfl rfl)
theorem dX6_init_183 : decode cX6_init 183 = .ok (.newarray .int, 2) := dk_188_10 (dk_at dksX6_init_7 18 rfl rfl)
theorem dX6_init_185 : decode cX6_init 185 = .ok (.putfield 75, 3) := dk_181 0 75 (dk_at dksX6_init_7 20 rfl rfl)
theorem dX6_init_188 : decode cX6_init 188 = .ok (.aload_n 0, 1) := dk_42 (dk_at dksX6_init_7 23 rfl rfl)
theorem dX6_init_189 : decode cX6_init 189 = .ok (.sipush 192, 3) := dk_17 0 192 (dk_at dksX6_init_8 0 rfl rfl)
theorem dX6_init_192 : decode cX6_init 192 = .ok (.newarray .int, 2) := dk_188_10 (dk_at dksX6_init_8 3 rfl rfl)
theorem dX6_init_194 : decode cX6_init 194 = .ok (.putfield 78, 3) := dk_181 0 78 (dk_at dksX6_init_8 5 rfl rfl)
theorem dX6_init_197 : decode cX6_init 197 = .ok (.aload_n 0, 1) := dk_42 (dk_at dksX6_init_8 8 rfl rfl)
theorem dX6_init_198 : decode cX6_init 198 = .ok (.bipush 96, 2) := dk_16 96 (dk_at dksX6_init_8 9 rfl rfl)
theorem dX6_init_200 : decode cX6_init 200 = .ok (.newarray .int, 2) := dk_188_10 (dk_at dksX6_init_8 11 rfl rfl)
theorem dX6_init_202 : decode cX6_init 202 = .ok (.putfield 81, 3) := dk_181 0 81 (dk_at dksX6_init_8 13 rfl rfl)
theorem dX6_init_205 : decode cX6_init 205 = .ok (.aload_n 0, 1) := dk_42 (dk_at dksX6_init_8 16 rfl rfl)
theorem dX6_init_206 : decode cX6_init 206 = .ok (.bipush 96, 2) := dk_16 96 (dk_at dksX6_init_8 17 rfl rfl)
theorem dX6_init_208 : decode cX6_init 208 = .ok (.newarray .int, 2) := dk_188_10 (dk_at dksX6_init_8 19 rfl rfl)
theorem dX6_init_210 : decode cX6_init 210 = .ok (.putfield 84, 3) := dk_181 0 84 (dk_at dksX6_init_8 21 rfl rfl)
theorem dX6_init_213 : decode cX6_init 213 = .ok (.aload_n 0, 1) := dk_42 (dk_at dksX6_init_9 0 rfl rfl)
theorem dX6_init_214 : decode cX6_init 214 = .ok (.sipush 192, 3) := dk_17 0 192 (dk_at dksX6_init_9 1 rfl rfl)
theorem dX6_init_217 : decode cX6_init 217 = .ok (.newarray .int, 2) := dk_188_10 (dk_at dksX6_init_9 4 rfl rfl)
theorem dX6_init_219 : decode cX6_init 219 = .ok (.putfield 87, 3) := dk_181 0 87 (dk_at dksX6_init_9 6 rfl rfl)
theorem dX6_init_222 : decode cX6_init 222 = .ok (.aload_n 0, 1) := dk_42 (dk_at dksX6_init_9 9 rfl rfl)
theorem dX6_init_223 : decode cX6_init 223 = .ok (.sipush 192, 3) := dk_17 0 192 (dk_at dksX6_init_9 10 rfl rfl)
theorem dX6_init_226 : decode cX6_init 226 = .ok (.newarray .int, 2) := dk_188_10 (dk_at dksX6_init_9 13 rfl rfl)
theorem dX6_init_228 : decode cX6_init 228 = .ok (.putfield 90, 3) := dk_181 0 90 (dk_at dksX6_init_9 15 rfl rfl)
theorem dX6_init_231 : decode cX6_init 231 = .ok (.aload_n 0, 1) := dk_42 (dk_at dksX6_init_9 18 rfl rfl)
theorem dX6_init_232 : decode cX6_init 232 = .ok (.bipush 96, 2) := dk_16 96 (dk_at dksX6_init_9 19 rfl rfl)
theorem dX6_init_234 : decode cX6_init 234 = .ok (.newarray .int, 2) := dk_188_10 (dk_at dksX6_init_9 21 rfl rfl)
theorem dX6_init_236 : decode cX6_init 236 = .ok (.putfield 93, 3) := dk_181 0 93 (dk_at dksX6_init_10 0 rfl rfl)
theorem dX6_init_239 : decode cX6_init 239 = .ok (.aload_n 0, 1) := dk_42 (dk_at dksX6_init_10 3 rfl rfl)
theorem dX6_init_240 : decode cX6_init 240 = .ok (.bipush 96, 2) := dk_16 96 (dk_at dksX6_init_10 4 rfl rfl)
theorem dX6_init_242 : decode cX6_init 242 = .ok (.newarray .int, 2) := dk_188_10 (dk_at dksX6_init_10 6 rfl rfl)
theorem dX6_init_244 : decode cX6_init 244 = .ok (.putfield 96, 3) := dk_181 0 96 (dk_at dksX6_init_10 8 rfl rfl)
theorem dX6_init_247 : decode cX6_init 247 = .ok (.aload_n 0, 1) := dk_42 (dk_at dksX6_init_10 11 rfl rfl)
theorem dX6_init_248 : decode cX6_init 248 = .ok (.bipush 10, 2) := dk_16 10 (dk_at dksX6_init_10 12 rfl rfl)
theorem dX6_init_250 : decode cX6_init 250 = .ok (.newarray .int, 2) := dk_188_10 (dk_at dksX6_init_10 14 rfl rfl)
theorem dX6_init_252 : decode cX6_init 252 = .ok (.putfield 99, 3) := dk_181 0 99 (dk_at dksX6_init_10 16 rfl rfl)
theorem dX6_init_255 : decode cX6_init 255 = .ok (.aload_n 0, 1) := dk_42 (dk_at dksX6_init_10 19 rfl rfl)
theorem dX6_init_256 : decode cX6_init 256 = .ok (.getfield 7, 3) := dk_180 0 7 (dk_at dksX6_init_10 20 rfl rfl)
theorem dX6_init_259 : decode cX6_init 259 = .ok (.sipush 314, 3) := dk_17 1 58 (dk_at dksX6_init_11 0 rfl rfl)
theorem dX6_init_262 : decode cX6_init 262 = .ok (.iconst 1, 1) := dk_4 (dk_at dksX6_init_11 3 rfl rfl)
theorem dX6_init_263 : decode cX6_init 263 = .ok (.iastore, 1) := dk_79 (dk_at dksX6_init_11 4 rfl rfl)
theorem dX6_init_264 : decode cX6_init 264 = .ok (.return_, 1) := dk_177 (dk_at dksX6_init_11 5 rfl rfl)
abbrev cX6_feed : ByteArray := prog_20_method_16_code
def yX6_feed : MethodName := ⟨RX6, "feed", "(IIIII)I"⟩
def dkwX6_feed_2 : List UInt8 := [172]
abbrev dktX6_feed_2 : List UInt8 := dkwX6_feed_2 ++ []
def dkwX6_feed_1 : List UInt8 := [182, 0, 121, 42, 29, 182, 0, 121, 42, 21, 4, 182, 0, 121, 42, 21, 5, 182, 0, 121, 42, 180, 0, 117]
abbrev dktX6_feed_1 : List UInt8 := dkwX6_feed_1 ++ dktX6_feed_2
def dkwX6_feed_0 : List UInt8 := [42, 180, 0, 117, 16, 20, 96, 17, 1, 4, 164, 0, 5, 2, 172, 42, 27, 182, 0, 121, 42, 28]
abbrev dktX6_feed_0 : List UInt8 := dkwX6_feed_0 ++ dktX6_feed_1
theorem dksX6_feed_0 : cX6_feed.data.toList.drop 0 = dktX6_feed_0 := by decide +kernel
theorem dksX6_feed_1 : cX6_feed.data.toList.drop 22 = dktX6_feed_1 := dk_seg dksX6_feed_0 22 rfl rfl
theorem dksX6_feed_2 : cX6_feed.data.toList.drop 46 = dktX6_feed_2 := dk_seg dksX6_feed_1 24 rfl rfl
theorem dX6_feed_0 : decode cX6_feed 0 = .ok (.aload_n 0, 1) := dk_42 (dk_at dksX6_feed_0 0 rfl rfl)
theorem dX6_feed_1 : decode cX6_feed 1 = .ok (.getfield 117, 3) := dk_180 0 117 (dk_at dksX6_feed_0 1 rfl rfl)
theorem dX6_feed_4 : decode cX6_feed 4 = .ok (.bipush 20, 2) := dk_16 20 (dk_at dksX6_feed_0 4 rfl rfl)
theorem dX6_feed_6 : decode cX6_feed 6 = .ok (.iadd, 1) := dk_96 (dk_at dksX6_feed_0 6 rfl rfl)
theorem dX6_feed_7 : decode cX6_feed 7 = .ok (.sipush 260, 3) := dk_17 1 4 (dk_at dksX6_feed_0 7 rfl rfl)
theorem dX6_feed_10 : decode cX6_feed 10 = .ok (.if_icmp .le 5, 3) := dk_164 0 5 (dk_at dksX6_feed_0 10 rfl rfl)
theorem dX6_feed_13 : decode cX6_feed 13 = .ok (.iconst (-1), 1) := dk_2 (dk_at dksX6_feed_0 13 rfl rfl)
theorem dX6_feed_14 : decode cX6_feed 14 = .ok (.ireturn, 1) := dk_172 (dk_at dksX6_feed_0 14 rfl rfl)
theorem dX6_feed_15 : decode cX6_feed 15 = .ok (.aload_n 0, 1) := dk_42 (dk_at dksX6_feed_0 15 rfl rfl)
theorem dX6_feed_16 : decode cX6_feed 16 = .ok (.iload_n 1, 1) := dk_27 (dk_at dksX6_feed_0 16 rfl rfl)
theorem dX6_feed_17 : decode cX6_feed 17 = .ok (.invokevirtual 121, 3) := dk_182 0 121 (dk_at dksX6_feed_0 17 rfl rfl)
theorem dX6_feed_20 : decode cX6_feed 20 = .ok (.aload_n 0, 1) := dk_42 (dk_at dksX6_feed_0 20 rfl rfl)
theorem dX6_feed_21 : decode cX6_feed 21 = .ok (.iload_n 2, 1) := dk_28 (dk_at dksX6_feed_0 21 rfl rfl)
theorem dX6_feed_22 : decode cX6_feed 22 = .ok (.invokevirtual 121, 3) := dk_182 0 121 (dk_at dksX6_feed_1 0 rfl rfl)
theorem dX6_feed_25 : decode cX6_feed 25 = .ok (.aload_n 0, 1) := dk_42 (dk_at dksX6_feed_1 3 rfl rfl)
theorem dX6_feed_26 : decode cX6_feed 26 = .ok (.iload_n 3, 1) := dk_29 (dk_at dksX6_feed_1 4 rfl rfl)
theorem dX6_feed_27 : decode cX6_feed 27 = .ok (.invokevirtual 121, 3) := dk_182 0 121 (dk_at dksX6_feed_1 5 rfl rfl)
theorem dX6_feed_30 : decode cX6_feed 30 = .ok (.aload_n 0, 1) := dk_42 (dk_at dksX6_feed_1 8 rfl rfl)
theorem dX6_feed_31 : decode cX6_feed 31 = .ok (.iload 4, 2) := dk_21 4 (dk_at dksX6_feed_1 9 rfl rfl)
theorem dX6_feed_33 : decode cX6_feed 33 = .ok (.invokevirtual 121, 3) := dk_182 0 121 (dk_at dksX6_feed_1 11 rfl rfl)
theorem dX6_feed_36 : decode cX6_feed 36 = .ok (.aload_n 0, 1) := dk_42 (dk_at dksX6_feed_1 14 rfl rfl)
theorem dX6_feed_37 : decode cX6_feed 37 = .ok (.iload 5, 2) := dk_21 5 (dk_at dksX6_feed_1 15 rfl rfl)
theorem dX6_feed_39 : decode cX6_feed 39 = .ok (.invokevirtual 121, 3) := dk_182 0 121 (dk_at dksX6_feed_1 17 rfl rfl)
theorem dX6_feed_42 : decode cX6_feed 42 = .ok (.aload_n 0, 1) := dk_42 (dk_at dksX6_feed_1 20 rfl rfl)
theorem dX6_feed_43 : decode cX6_feed 43 = .ok (.getfield 117, 3) := dk_180 0 117 (dk_at dksX6_feed_1 21 rfl rfl)
theorem dX6_feed_46 : decode cX6_feed 46 = .ok (.ireturn, 1) := dk_172 (dk_at dksX6_feed_2 0 rfl rfl)
abbrev cX6_types : ByteArray := prog_20_method_15_code
def yX6_types : MethodName := ⟨RX6, "types", "(I)V"⟩
def dkwX6_types_1 : List UInt8 := [180, 0, 117, 4, 96, 181, 0, 117, 132, 2, 255, 167, 255, 223, 177]
abbrev dktX6_types_1 : List UInt8 := dkwX6_types_1 ++ []
def dkwX6_types_0 : List UInt8 := [6, 61, 28, 155, 0, 35, 42, 180, 0, 25, 42, 180, 0, 117, 27, 16, 8, 28, 104, 122, 145, 84, 42, 42]
abbrev dktX6_types_0 : List UInt8 := dkwX6_types_0 ++ dktX6_types_1
theorem dksX6_types_0 : cX6_types.data.toList.drop 0 = dktX6_types_0 := by decide +kernel
theorem dksX6_types_1 : cX6_types.data.toList.drop 24 = dktX6_types_1 := dk_seg dksX6_types_0 24 rfl rfl
theorem dX6_types_0 : decode cX6_types 0 = .ok (.iconst 3, 1) := dk_6 (dk_at dksX6_types_0 0 rfl rfl)
theorem dX6_types_1 : decode cX6_types 1 = .ok (.istore_n 2, 1) := dk_61 (dk_at dksX6_types_0 1 rfl rfl)
theorem dX6_types_2 : decode cX6_types 2 = .ok (.iload_n 2, 1) := dk_28 (dk_at dksX6_types_0 2 rfl rfl)
theorem dX6_types_3 : decode cX6_types 3 = .ok (.ifCond .lt 35, 3) := dk_155 0 35 (dk_at dksX6_types_0 3 rfl rfl)
theorem dX6_types_6 : decode cX6_types 6 = .ok (.aload_n 0, 1) := dk_42 (dk_at dksX6_types_0 6 rfl rfl)
theorem dX6_types_7 : decode cX6_types 7 = .ok (.getfield 25, 3) := dk_180 0 25 (dk_at dksX6_types_0 7 rfl rfl)
theorem dX6_types_10 : decode cX6_types 10 = .ok (.aload_n 0, 1) := dk_42 (dk_at dksX6_types_0 10 rfl rfl)
theorem dX6_types_11 : decode cX6_types 11 = .ok (.getfield 117, 3) := dk_180 0 117 (dk_at dksX6_types_0 11 rfl rfl)
theorem dX6_types_14 : decode cX6_types 14 = .ok (.iload_n 1, 1) := dk_27 (dk_at dksX6_types_0 14 rfl rfl)
theorem dX6_types_15 : decode cX6_types 15 = .ok (.bipush 8, 2) := dk_16 8 (dk_at dksX6_types_0 15 rfl rfl)
theorem dX6_types_17 : decode cX6_types 17 = .ok (.iload_n 2, 1) := dk_28 (dk_at dksX6_types_0 17 rfl rfl)
theorem dX6_types_18 : decode cX6_types 18 = .ok (.imul, 1) := dk_104 (dk_at dksX6_types_0 18 rfl rfl)
theorem dX6_types_19 : decode cX6_types 19 = .ok (.ishr, 1) := dk_122 (dk_at dksX6_types_0 19 rfl rfl)
theorem dX6_types_20 : decode cX6_types 20 = .ok (.i2b, 1) := dk_145 (dk_at dksX6_types_0 20 rfl rfl)
theorem dX6_types_21 : decode cX6_types 21 = .ok (.bastore, 1) := dk_84 (dk_at dksX6_types_0 21 rfl rfl)
theorem dX6_types_22 : decode cX6_types 22 = .ok (.aload_n 0, 1) := dk_42 (dk_at dksX6_types_0 22 rfl rfl)
theorem dX6_types_23 : decode cX6_types 23 = .ok (.aload_n 0, 1) := dk_42 (dk_at dksX6_types_0 23 rfl rfl)
theorem dX6_types_24 : decode cX6_types 24 = .ok (.getfield 117, 3) := dk_180 0 117 (dk_at dksX6_types_1 0 rfl rfl)
theorem dX6_types_27 : decode cX6_types 27 = .ok (.iconst 1, 1) := dk_4 (dk_at dksX6_types_1 3 rfl rfl)
theorem dX6_types_28 : decode cX6_types 28 = .ok (.iadd, 1) := dk_96 (dk_at dksX6_types_1 4 rfl rfl)
theorem dX6_types_29 : decode cX6_types 29 = .ok (.putfield 117, 3) := dk_181 0 117 (dk_at dksX6_types_1 5 rfl rfl)
theorem dX6_types_32 : decode cX6_types 32 = .ok (.iinc 2 (-1), 3) := dk_132 2 255 (dk_at dksX6_types_1 8 rfl rfl)
theorem dX6_types_35 : decode cX6_types 35 = .ok (.goto (-33), 3) := dk_167 255 223 (dk_at dksX6_types_1 11 rfl rfl)
theorem dX6_types_38 : decode cX6_types 38 = .ok (.return_, 1) := dk_177 (dk_at dksX6_types_1 14 rfl rfl)
abbrev cX6_law : ByteArray := prog_20_method_39_code
def yX6_law : MethodName := ⟨RX6, "law", "(I)I"⟩
def dkwX6_law_7 : List UInt8 := [79, 42, 180, 0, 59, 29, 42, 180, 0, 44, 29, 46, 79, 132, 3, 1, 167, 255, 197, 42, 180, 0, 203, 172]
abbrev dktX6_law_7 : List UInt8 := dkwX6_law_7 ++ []
def dkwX6_law_6 : List UInt8 := [79, 42, 180, 0, 53, 29, 42, 180, 0, 38, 29, 46, 79, 42, 180, 0, 56, 29, 42, 180, 0, 41, 29, 46]
abbrev dktX6_law_6 : List UInt8 := dkwX6_law_6 ++ dktX6_law_7
def dkwX6_law_5 : List UInt8 := [167, 255, 233, 3, 62, 29, 42, 180, 0, 203, 162, 0, 57, 42, 180, 0, 50, 29, 42, 180, 0, 35, 29, 46]
abbrev dktX6_law_5 : List UInt8 := dkwX6_law_5 ++ dktX6_law_6
def dkwX6_law_4 : List UInt8 := [29, 42, 180, 0, 148, 162, 0, 21, 42, 180, 0, 47, 29, 42, 180, 0, 29, 29, 46, 79, 132, 3, 1]
abbrev dktX6_law_4 : List UInt8 := dkwX6_law_4 ++ dktX6_law_5
def dkwX6_law_3 : List UInt8 := [42, 3, 181, 0, 117, 28, 154, 0, 8, 42, 180, 0, 135, 172, 42, 42, 180, 0, 203, 181, 0, 218, 3, 62]
abbrev dktX6_law_3 : List UInt8 := dkwX6_law_3 ++ dktX6_law_4
def dkwX6_law_2 : List UInt8 := [16, 59, 182, 0, 215, 153, 0, 14, 42, 182, 0, 212, 153, 0, 7, 4, 167, 0, 4, 3, 61, 167, 255, 219]
abbrev dktX6_law_2 : List UInt8 := dkwX6_law_2 ++ dktX6_law_3
def dkwX6_law_1 : List UInt8 := [182, 0, 209, 42, 182, 0, 212, 61, 28, 153, 0, 39, 42, 180, 0, 125, 42, 180, 0, 128, 162, 0, 28, 42]
abbrev dktX6_law_1 : List UInt8 := dkwX6_law_1 ++ dktX6_law_2
def dkwX6_law_0 : List UInt8 := [27, 4, 17, 0, 240, 184, 0, 102, 153, 0, 11, 27, 42, 180, 0, 117, 164, 0, 5, 2, 172, 42, 27]
abbrev dktX6_law_0 : List UInt8 := dkwX6_law_0 ++ dktX6_law_1
theorem dksX6_law_0 : cX6_law.data.toList.drop 0 = dktX6_law_0 := by decide +kernel
theorem dksX6_law_1 : cX6_law.data.toList.drop 23 = dktX6_law_1 := dk_seg dksX6_law_0 23 rfl rfl
theorem dksX6_law_2 : cX6_law.data.toList.drop 47 = dktX6_law_2 := dk_seg dksX6_law_1 24 rfl rfl
theorem dksX6_law_3 : cX6_law.data.toList.drop 71 = dktX6_law_3 := dk_seg dksX6_law_2 24 rfl rfl
theorem dksX6_law_4 : cX6_law.data.toList.drop 95 = dktX6_law_4 := dk_seg dksX6_law_3 24 rfl rfl
theorem dksX6_law_5 : cX6_law.data.toList.drop 118 = dktX6_law_5 := dk_seg dksX6_law_4 23 rfl rfl
theorem dksX6_law_6 : cX6_law.data.toList.drop 142 = dktX6_law_6 := dk_seg dksX6_law_5 24 rfl rfl
theorem dksX6_law_7 : cX6_law.data.toList.drop 166 = dktX6_law_7 := dk_seg dksX6_law_6 24 rfl rfl
theorem dX6_law_0 : decode cX6_law 0 = .ok (.iload_n 1, 1) := dk_27 (dk_at dksX6_law_0 0 rfl rfl)
theorem dX6_law_1 : decode cX6_law 1 = .ok (.iconst 1, 1) := dk_4 (dk_at dksX6_law_0 1 rfl rfl)
theorem dX6_law_2 : decode cX6_law 2 = .ok (.sipush 240, 3) := dk_17 0 240 (dk_at dksX6_law_0 2 rfl rfl)
theorem dX6_law_5 : decode cX6_law 5 = .ok (.invokestatic 102, 3) := dk_184 0 102 (dk_at dksX6_law_0 5 rfl rfl)
theorem dX6_law_8 : decode cX6_law 8 = .ok (.ifCond .eq 11, 3) := dk_153 0 11 (dk_at dksX6_law_0 8 rfl rfl)
theorem dX6_law_11 : decode cX6_law 11 = .ok (.iload_n 1, 1) := dk_27 (dk_at dksX6_law_0 11 rfl rfl)
theorem dX6_law_12 : decode cX6_law 12 = .ok (.aload_n 0, 1) := dk_42 (dk_at dksX6_law_0 12 rfl rfl)
theorem dX6_law_13 : decode cX6_law 13 = .ok (.getfield 117, 3) := dk_180 0 117 (dk_at dksX6_law_0 13 rfl rfl)
theorem dX6_law_16 : decode cX6_law 16 = .ok (.if_icmp .le 5, 3) := dk_164 0 5 (dk_at dksX6_law_0 16 rfl rfl)
theorem dX6_law_19 : decode cX6_law 19 = .ok (.iconst (-1), 1) := dk_2 (dk_at dksX6_law_0 19 rfl rfl)
theorem dX6_law_20 : decode cX6_law 20 = .ok (.ireturn, 1) := dk_172 (dk_at dksX6_law_0 20 rfl rfl)
theorem dX6_law_21 : decode cX6_law 21 = .ok (.aload_n 0, 1) := dk_42 (dk_at dksX6_law_0 21 rfl rfl)
theorem dX6_law_22 : decode cX6_law 22 = .ok (.iload_n 1, 1) := dk_27 (dk_at dksX6_law_0 22 rfl rfl)
theorem dX6_law_23 : decode cX6_law 23 = .ok (.invokevirtual 209, 3) := dk_182 0 209 (dk_at dksX6_law_1 0 rfl rfl)
theorem dX6_law_26 : decode cX6_law 26 = .ok (.aload_n 0, 1) := dk_42 (dk_at dksX6_law_1 3 rfl rfl)
theorem dX6_law_27 : decode cX6_law 27 = .ok (.invokevirtual 212, 3) := dk_182 0 212 (dk_at dksX6_law_1 4 rfl rfl)
theorem dX6_law_30 : decode cX6_law 30 = .ok (.istore_n 2, 1) := dk_61 (dk_at dksX6_law_1 7 rfl rfl)
theorem dX6_law_31 : decode cX6_law 31 = .ok (.iload_n 2, 1) := dk_28 (dk_at dksX6_law_1 8 rfl rfl)
theorem dX6_law_32 : decode cX6_law 32 = .ok (.ifCond .eq 39, 3) := dk_153 0 39 (dk_at dksX6_law_1 9 rfl rfl)
theorem dX6_law_35 : decode cX6_law 35 = .ok (.aload_n 0, 1) := dk_42 (dk_at dksX6_law_1 12 rfl rfl)
theorem dX6_law_36 : decode cX6_law 36 = .ok (.getfield 125, 3) := dk_180 0 125 (dk_at dksX6_law_1 13 rfl rfl)
theorem dX6_law_39 : decode cX6_law 39 = .ok (.aload_n 0, 1) := dk_42 (dk_at dksX6_law_1 16 rfl rfl)
theorem dX6_law_40 : decode cX6_law 40 = .ok (.getfield 128, 3) := dk_180 0 128 (dk_at dksX6_law_1 17 rfl rfl)
theorem dX6_law_43 : decode cX6_law 43 = .ok (.if_icmp .ge 28, 3) := dk_162 0 28 (dk_at dksX6_law_1 20 rfl rfl)
theorem dX6_law_46 : decode cX6_law 46 = .ok (.aload_n 0, 1) := dk_42 (dk_at dksX6_law_1 23 rfl rfl)
theorem dX6_law_47 : decode cX6_law 47 = .ok (.bipush 59, 2) := dk_16 59 (dk_at dksX6_law_2 0 rfl rfl)
theorem dX6_law_49 : decode cX6_law 49 = .ok (.invokevirtual 215, 3) := dk_182 0 215 (dk_at dksX6_law_2 2 rfl rfl)
theorem dX6_law_52 : decode cX6_law 52 = .ok (.ifCond .eq 14, 3) := dk_153 0 14 (dk_at dksX6_law_2 5 rfl rfl)
theorem dX6_law_55 : decode cX6_law 55 = .ok (.aload_n 0, 1) := dk_42 (dk_at dksX6_law_2 8 rfl rfl)
theorem dX6_law_56 : decode cX6_law 56 = .ok (.invokevirtual 212, 3) := dk_182 0 212 (dk_at dksX6_law_2 9 rfl rfl)
theorem dX6_law_59 : decode cX6_law 59 = .ok (.ifCond .eq 7, 3) := dk_153 0 7 (dk_at dksX6_law_2 12 rfl rfl)
theorem dX6_law_62 : decode cX6_law 62 = .ok (.iconst 1, 1) := dk_4 (dk_at dksX6_law_2 15 rfl rfl)
theorem dX6_law_63 : decode cX6_law 63 = .ok (.goto 4, 3) := dk_167 0 4 (dk_at dksX6_law_2 16 rfl rfl)
theorem dX6_law_66 : decode cX6_law 66 = .ok (.iconst 0, 1) := dk_3 (dk_at dksX6_law_2 19 rfl rfl)
theorem dX6_law_67 : decode cX6_law 67 = .ok (.istore_n 2, 1) := dk_61 (dk_at dksX6_law_2 20 rfl rfl)
theorem dX6_law_68 : decode cX6_law 68 = .ok (.goto (-37), 3) := dk_167 255 219 (dk_at dksX6_law_2 21 rfl rfl)
theorem dX6_law_71 : decode cX6_law 71 = .ok (.aload_n 0, 1) := dk_42 (dk_at dksX6_law_3 0 rfl rfl)
theorem dX6_law_72 : decode cX6_law 72 = .ok (.iconst 0, 1) := dk_3 (dk_at dksX6_law_3 1 rfl rfl)
theorem dX6_law_73 : decode cX6_law 73 = .ok (.putfield 117, 3) := dk_181 0 117 (dk_at dksX6_law_3 2 rfl rfl)
theorem dX6_law_76 : decode cX6_law 76 = .ok (.iload_n 2, 1) := dk_28 (dk_at dksX6_law_3 5 rfl rfl)
theorem dX6_law_77 : decode cX6_law 77 = .ok (.ifCond .ne 8, 3) := dk_154 0 8 (dk_at dksX6_law_3 6 rfl rfl)
theorem dX6_law_80 : decode cX6_law 80 = .ok (.aload_n 0, 1) := dk_42 (dk_at dksX6_law_3 9 rfl rfl)
theorem dX6_law_81 : decode cX6_law 81 = .ok (.getfield 135, 3) := dk_180 0 135 (dk_at dksX6_law_3 10 rfl rfl)
theorem dX6_law_84 : decode cX6_law 84 = .ok (.ireturn, 1) := dk_172 (dk_at dksX6_law_3 13 rfl rfl)
theorem dX6_law_85 : decode cX6_law 85 = .ok (.aload_n 0, 1) := dk_42 (dk_at dksX6_law_3 14 rfl rfl)
theorem dX6_law_86 : decode cX6_law 86 = .ok (.aload_n 0, 1) := dk_42 (dk_at dksX6_law_3 15 rfl rfl)
theorem dX6_law_87 : decode cX6_law 87 = .ok (.getfield 203, 3) := dk_180 0 203 (dk_at dksX6_law_3 16 rfl rfl)
theorem dX6_law_90 : decode cX6_law 90 = .ok (.putfield 218, 3) := dk_181 0 218 (dk_at dksX6_law_3 19 rfl rfl)
theorem dX6_law_93 : decode cX6_law 93 = .ok (.iconst 0, 1) := dk_3 (dk_at dksX6_law_3 22 rfl rfl)
theorem dX6_law_94 : decode cX6_law 94 = .ok (.istore_n 3, 1) := dk_62 (dk_at dksX6_law_3 23 rfl rfl)
theorem dX6_law_95 : decode cX6_law 95 = .ok (.iload_n 3, 1) := dk_29 (dk_at dksX6_law_4 0 rfl rfl)
theorem dX6_law_96 : decode cX6_law 96 = .ok (.aload_n 0, 1) := dk_42 (dk_at dksX6_law_4 1 rfl rfl)
theorem dX6_law_97 : decode cX6_law 97 = .ok (.getfield 148, 3) := dk_180 0 148 (dk_at dksX6_law_4 2 rfl rfl)
theorem dX6_law_100 : decode cX6_law 100 = .ok (.if_icmp .ge 21, 3) := dk_162 0 21 (dk_at dksX6_law_4 5 rfl rfl)
theorem dX6_law_103 : decode cX6_law 103 = .ok (.aload_n 0, 1) := dk_42 (dk_at dksX6_law_4 8 rfl rfl)
theorem dX6_law_104 : decode cX6_law 104 = .ok (.getfield 47, 3) := dk_180 0 47 (dk_at dksX6_law_4 9 rfl rfl)
theorem dX6_law_107 : decode cX6_law 107 = .ok (.iload_n 3, 1) := dk_29 (dk_at dksX6_law_4 12 rfl rfl)
theorem dX6_law_108 : decode cX6_law 108 = .ok (.aload_n 0, 1) := dk_42 (dk_at dksX6_law_4 13 rfl rfl)
theorem dX6_law_109 : decode cX6_law 109 = .ok (.getfield 29, 3) := dk_180 0 29 (dk_at dksX6_law_4 14 rfl rfl)
theorem dX6_law_112 : decode cX6_law 112 = .ok (.iload_n 3, 1) := dk_29 (dk_at dksX6_law_4 17 rfl rfl)
theorem dX6_law_113 : decode cX6_law 113 = .ok (.iaload, 1) := dk_46 (dk_at dksX6_law_4 18 rfl rfl)
theorem dX6_law_114 : decode cX6_law 114 = .ok (.iastore, 1) := dk_79 (dk_at dksX6_law_4 19 rfl rfl)
theorem dX6_law_115 : decode cX6_law 115 = .ok (.iinc 3 1, 3) := dk_132 3 1 (dk_at dksX6_law_4 20 rfl rfl)
theorem dX6_law_118 : decode cX6_law 118 = .ok (.goto (-23), 3) := dk_167 255 233 (dk_at dksX6_law_5 0 rfl rfl)
theorem dX6_law_121 : decode cX6_law 121 = .ok (.iconst 0, 1) := dk_3 (dk_at dksX6_law_5 3 rfl rfl)
theorem dX6_law_122 : decode cX6_law 122 = .ok (.istore_n 3, 1) := dk_62 (dk_at dksX6_law_5 4 rfl rfl)
theorem dX6_law_123 : decode cX6_law 123 = .ok (.iload_n 3, 1) := dk_29 (dk_at dksX6_law_5 5 rfl rfl)
theorem dX6_law_124 : decode cX6_law 124 = .ok (.aload_n 0, 1) := dk_42 (dk_at dksX6_law_5 6 rfl rfl)
theorem dX6_law_125 : decode cX6_law 125 = .ok (.getfield 203, 3) := dk_180 0 203 (dk_at dksX6_law_5 7 rfl rfl)
theorem dX6_law_128 : decode cX6_law 128 = .ok (.if_icmp .ge 57, 3) := dk_162 0 57 (dk_at dksX6_law_5 10 rfl rfl)
theorem dX6_law_131 : decode cX6_law 131 = .ok (.aload_n 0, 1) := dk_42 (dk_at dksX6_law_5 13 rfl rfl)
theorem dX6_law_132 : decode cX6_law 132 = .ok (.getfield 50, 3) := dk_180 0 50 (dk_at dksX6_law_5 14 rfl rfl)
theorem dX6_law_135 : decode cX6_law 135 = .ok (.iload_n 3, 1) := dk_29 (dk_at dksX6_law_5 17 rfl rfl)
theorem dX6_law_136 : decode cX6_law 136 = .ok (.aload_n 0, 1) := dk_42 (dk_at dksX6_law_5 18 rfl rfl)
theorem dX6_law_137 : decode cX6_law 137 = .ok (.getfield 35, 3) := dk_180 0 35 (dk_at dksX6_law_5 19 rfl rfl)
theorem dX6_law_140 : decode cX6_law 140 = .ok (.iload_n 3, 1) := dk_29 (dk_at dksX6_law_5 22 rfl rfl)
theorem dX6_law_141 : decode cX6_law 141 = .ok (.iaload, 1) := dk_46 (dk_at dksX6_law_5 23 rfl rfl)
theorem dX6_law_142 : decode cX6_law 142 = .ok (.iastore, 1) := dk_79 (dk_at dksX6_law_6 0 rfl rfl)
theorem dX6_law_143 : decode cX6_law 143 = .ok (.aload_n 0, 1) := dk_42 (dk_at dksX6_law_6 1 rfl rfl)
theorem dX6_law_144 : decode cX6_law 144 = .ok (.getfield 53, 3) := dk_180 0 53 (dk_at dksX6_law_6 2 rfl rfl)
theorem dX6_law_147 : decode cX6_law 147 = .ok (.iload_n 3, 1) := dk_29 (dk_at dksX6_law_6 5 rfl rfl)
theorem dX6_law_148 : decode cX6_law 148 = .ok (.aload_n 0, 1) := dk_42 (dk_at dksX6_law_6 6 rfl rfl)
theorem dX6_law_149 : decode cX6_law 149 = .ok (.getfield 38, 3) := dk_180 0 38 (dk_at dksX6_law_6 7 rfl rfl)
theorem dX6_law_152 : decode cX6_law 152 = .ok (.iload_n 3, 1) := dk_29 (dk_at dksX6_law_6 10 rfl rfl)
theorem dX6_law_153 : decode cX6_law 153 = .ok (.iaload, 1) := dk_46 (dk_at dksX6_law_6 11 rfl rfl)
theorem dX6_law_154 : decode cX6_law 154 = .ok (.iastore, 1) := dk_79 (dk_at dksX6_law_6 12 rfl rfl)
theorem dX6_law_155 : decode cX6_law 155 = .ok (.aload_n 0, 1) := dk_42 (dk_at dksX6_law_6 13 rfl rfl)
theorem dX6_law_156 : decode cX6_law 156 = .ok (.getfield 56, 3) := dk_180 0 56 (dk_at dksX6_law_6 14 rfl rfl)
theorem dX6_law_159 : decode cX6_law 159 = .ok (.iload_n 3, 1) := dk_29 (dk_at dksX6_law_6 17 rfl rfl)
theorem dX6_law_160 : decode cX6_law 160 = .ok (.aload_n 0, 1) := dk_42 (dk_at dksX6_law_6 18 rfl rfl)
theorem dX6_law_161 : decode cX6_law 161 = .ok (.getfield 41, 3) := dk_180 0 41 (dk_at dksX6_law_6 19 rfl rfl)
theorem dX6_law_164 : decode cX6_law 164 = .ok (.iload_n 3, 1) := dk_29 (dk_at dksX6_law_6 22 rfl rfl)
theorem dX6_law_165 : decode cX6_law 165 = .ok (.iaload, 1) := dk_46 (dk_at dksX6_law_6 23 rfl rfl)
theorem dX6_law_166 : decode cX6_law 166 = .ok (.iastore, 1) := dk_79 (dk_at dksX6_law_7 0 rfl rfl)
theorem dX6_law_167 : decode cX6_law 167 = .ok (.aload_n 0, 1) := dk_42 (dk_at dksX6_law_7 1 rfl rfl)
theorem dX6_law_168 : decode cX6_law 168 = .ok (.getfield 59, 3) := dk_180 0 59 (dk_at dksX6_law_7 2 rfl rfl)
theorem dX6_law_171 : decode cX6_law 171 = .ok (.iload_n 3, 1) := dk_29 (dk_at dksX6_law_7 5 rfl rfl)
theorem dX6_law_172 : decode cX6_law 172 = .ok (.aload_n 0, 1) := dk_42 (dk_at dksX6_law_7 6 rfl rfl)
theorem dX6_law_173 : decode cX6_law 173 = .ok (.getfield 44, 3) := dk_180 0 44 (dk_at dksX6_law_7 7 rfl rfl)
theorem dX6_law_176 : decode cX6_law 176 = .ok (.iload_n 3, 1) := dk_29 (dk_at dksX6_law_7 10 rfl rfl)
theorem dX6_law_177 : decode cX6_law 177 = .ok (.iaload, 1) := dk_46 (dk_at dksX6_law_7 11 rfl rfl)
theorem dX6_law_178 : decode cX6_law 178 = .ok (.iastore, 1) := dk_79 (dk_at dksX6_law_7 12 rfl rfl)
theorem dX6_law_179 : decode cX6_law 179 = .ok (.iinc 3 1, 3) := dk_132 3 1 (dk_at dksX6_law_7 13 rfl rfl)
theorem dX6_law_182 : decode cX6_law 182 = .ok (.goto (-59), 3) := dk_167 255 197 (dk_at dksX6_law_7 16 rfl rfl)
theorem dX6_law_185 : decode cX6_law 185 = .ok (.aload_n 0, 1) := dk_42 (dk_at dksX6_law_7 19 rfl rfl)
theorem dX6_law_186 : decode cX6_law 186 = .ok (.getfield 203, 3) := dk_180 0 203 (dk_at dksX6_law_7 20 rfl rfl)
theorem dX6_law_189 : decode cX6_law 189 = .ok (.ireturn, 1) := dk_172 (dk_at dksX6_law_7 23 rfl rfl)
abbrev cX6_in : ByteArray := prog_20_method_2_code
def yX6_in : MethodName := ⟨RX6, "in", "(III)Z"⟩
def dkwX6_in_0 : List UInt8 := [26, 27, 161, 0, 12, 26, 28, 163, 0, 7, 4, 167, 0, 4, 3, 172]
abbrev dktX6_in_0 : List UInt8 := dkwX6_in_0 ++ []
theorem dksX6_in_0 : cX6_in.data.toList.drop 0 = dktX6_in_0 := by decide +kernel
theorem dX6_in_0 : decode cX6_in 0 = .ok (.iload_n 0, 1) := dk_26 (dk_at dksX6_in_0 0 rfl rfl)
theorem dX6_in_1 : decode cX6_in 1 = .ok (.iload_n 1, 1) := dk_27 (dk_at dksX6_in_0 1 rfl rfl)
theorem dX6_in_2 : decode cX6_in 2 = .ok (.if_icmp .lt 12, 3) := dk_161 0 12 (dk_at dksX6_in_0 2 rfl rfl)
theorem dX6_in_5 : decode cX6_in 5 = .ok (.iload_n 0, 1) := dk_26 (dk_at dksX6_in_0 5 rfl rfl)
theorem dX6_in_6 : decode cX6_in 6 = .ok (.iload_n 2, 1) := dk_28 (dk_at dksX6_in_0 6 rfl rfl)
theorem dX6_in_7 : decode cX6_in 7 = .ok (.if_icmp .gt 7, 3) := dk_163 0 7 (dk_at dksX6_in_0 7 rfl rfl)
theorem dX6_in_10 : decode cX6_in 10 = .ok (.iconst 1, 1) := dk_4 (dk_at dksX6_in_0 10 rfl rfl)
theorem dX6_in_11 : decode cX6_in 11 = .ok (.goto 4, 3) := dk_167 0 4 (dk_at dksX6_in_0 11 rfl rfl)
theorem dX6_in_14 : decode cX6_in 14 = .ok (.iconst 0, 1) := dk_3 (dk_at dksX6_in_0 14 rfl rfl)
theorem dX6_in_15 : decode cX6_in 15 = .ok (.ireturn, 1) := dk_172 (dk_at dksX6_in_0 15 rfl rfl)
abbrev cX6_beginsText : ByteArray := prog_20_method_38_code
def yX6_beginsText : MethodName := ⟨RX6, "beginsText", "(I)V"⟩
def dkwX6_beginsText_0 : List UInt8 := [42, 3, 181, 0, 125, 42, 27, 181, 0, 128, 42, 3, 181, 0, 148, 42, 3, 181, 0, 203, 177]
abbrev dktX6_beginsText_0 : List UInt8 := dkwX6_beginsText_0 ++ []
theorem dksX6_beginsText_0 : cX6_beginsText.data.toList.drop 0 = dktX6_beginsText_0 := by decide +kernel
theorem dX6_beginsText_0 : decode cX6_beginsText 0 = .ok (.aload_n 0, 1) := dk_42 (dk_at dksX6_beginsText_0 0 rfl rfl)
theorem dX6_beginsText_1 : decode cX6_beginsText 1 = .ok (.iconst 0, 1) := dk_3 (dk_at dksX6_beginsText_0 1 rfl rfl)
theorem dX6_beginsText_2 : decode cX6_beginsText 2 = .ok (.putfield 125, 3) := dk_181 0 125 (dk_at dksX6_beginsText_0 2 rfl rfl)
theorem dX6_beginsText_5 : decode cX6_beginsText 5 = .ok (.aload_n 0, 1) := dk_42 (dk_at dksX6_beginsText_0 5 rfl rfl)
theorem dX6_beginsText_6 : decode cX6_beginsText 6 = .ok (.iload_n 1, 1) := dk_27 (dk_at dksX6_beginsText_0 6 rfl rfl)
theorem dX6_beginsText_7 : decode cX6_beginsText 7 = .ok (.putfield 128, 3) := dk_181 0 128 (dk_at dksX6_beginsText_0 7 rfl rfl)
theorem dX6_beginsText_10 : decode cX6_beginsText 10 = .ok (.aload_n 0, 1) := dk_42 (dk_at dksX6_beginsText_0 10 rfl rfl)
theorem dX6_beginsText_11 : decode cX6_beginsText 11 = .ok (.iconst 0, 1) := dk_3 (dk_at dksX6_beginsText_0 11 rfl rfl)
theorem dX6_beginsText_12 : decode cX6_beginsText 12 = .ok (.putfield 148, 3) := dk_181 0 148 (dk_at dksX6_beginsText_0 12 rfl rfl)
theorem dX6_beginsText_15 : decode cX6_beginsText 15 = .ok (.aload_n 0, 1) := dk_42 (dk_at dksX6_beginsText_0 15 rfl rfl)
theorem dX6_beginsText_16 : decode cX6_beginsText 16 = .ok (.iconst 0, 1) := dk_3 (dk_at dksX6_beginsText_0 16 rfl rfl)
theorem dX6_beginsText_17 : decode cX6_beginsText 17 = .ok (.putfield 203, 3) := dk_181 0 203 (dk_at dksX6_beginsText_0 17 rfl rfl)
theorem dX6_beginsText_20 : decode cX6_beginsText 20 = .ok (.return_, 1) := dk_177 (dk_at dksX6_beginsText_0 20 rfl rfl)
abbrev cX6_readsRule : ByteArray := prog_20_method_37_code
def yX6_readsRule : MethodName := ⟨RX6, "readsRule", "()Z"⟩
def dkwX6_readsRule_6 : List UInt8 := [180, 0, 148, 79, 42, 42, 180, 0, 203, 4, 96, 181, 0, 203, 4, 172]
abbrev dktX6_readsRule_6 : List UInt8 := dkwX6_readsRule_6 ++ []
def dkwX6_readsRule_5 : List UInt8 := [180, 0, 148, 79, 42, 182, 0, 206, 154, 0, 5, 3, 172, 42, 180, 0, 44, 42, 180, 0, 203, 42]
abbrev dktX6_readsRule_5 : List UInt8 := dkwX6_readsRule_5 ++ dktX6_readsRule_6
def dkwX6_readsRule_4 : List UInt8 := [16, 120, 159, 0, 12, 42, 182, 0, 188, 154, 0, 5, 3, 172, 42, 180, 0, 41, 42, 180, 0, 203, 42]
abbrev dktX6_readsRule_4 : List UInt8 := dkwX6_readsRule_4 ++ dktX6_readsRule_5
def dkwX6_readsRule_3 : List UInt8 := [42, 180, 0, 38, 42, 180, 0, 203, 42, 180, 0, 148, 79, 42, 3, 181, 0, 152, 42, 3, 181, 0, 155, 27]
abbrev dktX6_readsRule_3 : List UInt8 := dkwX6_readsRule_3 ++ dktX6_readsRule_4
def dkwX6_readsRule_2 : List UInt8 := [182, 0, 138, 172, 42, 180, 0, 35, 42, 180, 0, 203, 27, 79, 42, 42, 180, 0, 125, 4, 96, 181, 0, 125]
abbrev dktX6_readsRule_2 : List UInt8 := dkwX6_readsRule_2 ++ dktX6_readsRule_3
def dkwX6_readsRule_1 : List UInt8 := [4, 42, 180, 0, 125, 182, 0, 138, 172, 42, 180, 0, 203, 16, 16, 160, 0, 13, 42, 7, 42, 180, 0, 125]
abbrev dktX6_readsRule_1 : List UInt8 := dkwX6_readsRule_1 ++ dktX6_readsRule_2
def dkwX6_readsRule_0 : List UInt8 := [42, 182, 0, 131, 60, 27, 16, 98, 159, 0, 25, 27, 16, 115, 159, 0, 19, 27, 16, 120, 159, 0, 13, 42]
abbrev dktX6_readsRule_0 : List UInt8 := dkwX6_readsRule_0 ++ dktX6_readsRule_1
theorem dksX6_readsRule_0 : cX6_readsRule.data.toList.drop 0 = dktX6_readsRule_0 := by decide +kernel
theorem dksX6_readsRule_1 : cX6_readsRule.data.toList.drop 24 = dktX6_readsRule_1 := dk_seg dksX6_readsRule_0 24 rfl rfl
theorem dksX6_readsRule_2 : cX6_readsRule.data.toList.drop 48 = dktX6_readsRule_2 := dk_seg dksX6_readsRule_1 24 rfl rfl
theorem dksX6_readsRule_3 : cX6_readsRule.data.toList.drop 72 = dktX6_readsRule_3 := dk_seg dksX6_readsRule_2 24 rfl rfl
theorem dksX6_readsRule_4 : cX6_readsRule.data.toList.drop 96 = dktX6_readsRule_4 := dk_seg dksX6_readsRule_3 24 rfl rfl
theorem dksX6_readsRule_5 : cX6_readsRule.data.toList.drop 119 = dktX6_readsRule_5 := dk_seg dksX6_readsRule_4 23 rfl rfl
theorem dksX6_readsRule_6 : cX6_readsRule.data.toList.drop 141 = dktX6_readsRule_6 := dk_seg dksX6_readsRule_5 22 rfl rfl
theorem dX6_readsRule_0 : decode cX6_readsRule 0 = .ok (.aload_n 0, 1) := dk_42 (dk_at dksX6_readsRule_0 0 rfl rfl)
theorem dX6_readsRule_1 : decode cX6_readsRule 1 = .ok (.invokevirtual 131, 3) := dk_182 0 131 (dk_at dksX6_readsRule_0 1 rfl rfl)
theorem dX6_readsRule_4 : decode cX6_readsRule 4 = .ok (.istore_n 1, 1) := dk_60 (dk_at dksX6_readsRule_0 4 rfl rfl)
theorem dX6_readsRule_5 : decode cX6_readsRule 5 = .ok (.iload_n 1, 1) := dk_27 (dk_at dksX6_readsRule_0 5 rfl rfl)
theorem dX6_readsRule_6 : decode cX6_readsRule 6 = .ok (.bipush 98, 2) := dk_16 98 (dk_at dksX6_readsRule_0 6 rfl rfl)
theorem dX6_readsRule_8 : decode cX6_readsRule 8 = .ok (.if_icmp .eq 25, 3) := dk_159 0 25 (dk_at dksX6_readsRule_0 8 rfl rfl)
theorem dX6_readsRule_11 : decode cX6_readsRule 11 = .ok (.iload_n 1, 1) := dk_27 (dk_at dksX6_readsRule_0 11 rfl rfl)
theorem dX6_readsRule_12 : decode cX6_readsRule 12 = .ok (.bipush 115, 2) := dk_16 115 (dk_at dksX6_readsRule_0 12 rfl rfl)
theorem dX6_readsRule_14 : decode cX6_readsRule 14 = .ok (.if_icmp .eq 19, 3) := dk_159 0 19 (dk_at dksX6_readsRule_0 14 rfl rfl)
theorem dX6_readsRule_17 : decode cX6_readsRule 17 = .ok (.iload_n 1, 1) := dk_27 (dk_at dksX6_readsRule_0 17 rfl rfl)
theorem dX6_readsRule_18 : decode cX6_readsRule 18 = .ok (.bipush 120, 2) := dk_16 120 (dk_at dksX6_readsRule_0 18 rfl rfl)
theorem dX6_readsRule_20 : decode cX6_readsRule 20 = .ok (.if_icmp .eq 13, 3) := dk_159 0 13 (dk_at dksX6_readsRule_0 20 rfl rfl)
theorem dX6_readsRule_23 : decode cX6_readsRule 23 = .ok (.aload_n 0, 1) := dk_42 (dk_at dksX6_readsRule_0 23 rfl rfl)
theorem dX6_readsRule_24 : decode cX6_readsRule 24 = .ok (.iconst 1, 1) := dk_4 (dk_at dksX6_readsRule_1 0 rfl rfl)
theorem dX6_readsRule_25 : decode cX6_readsRule 25 = .ok (.aload_n 0, 1) := dk_42 (dk_at dksX6_readsRule_1 1 rfl rfl)
theorem dX6_readsRule_26 : decode cX6_readsRule 26 = .ok (.getfield 125, 3) := dk_180 0 125 (dk_at dksX6_readsRule_1 2 rfl rfl)
theorem dX6_readsRule_29 : decode cX6_readsRule 29 = .ok (.invokevirtual 138, 3) := dk_182 0 138 (dk_at dksX6_readsRule_1 5 rfl rfl)
theorem dX6_readsRule_32 : decode cX6_readsRule 32 = .ok (.ireturn, 1) := dk_172 (dk_at dksX6_readsRule_1 8 rfl rfl)
theorem dX6_readsRule_33 : decode cX6_readsRule 33 = .ok (.aload_n 0, 1) := dk_42 (dk_at dksX6_readsRule_1 9 rfl rfl)
theorem dX6_readsRule_34 : decode cX6_readsRule 34 = .ok (.getfield 203, 3) := dk_180 0 203 (dk_at dksX6_readsRule_1 10 rfl rfl)
theorem dX6_readsRule_37 : decode cX6_readsRule 37 = .ok (.bipush 16, 2) := dk_16 16 (dk_at dksX6_readsRule_1 13 rfl rfl)
theorem dX6_readsRule_39 : decode cX6_readsRule 39 = .ok (.if_icmp .ne 13, 3) := dk_160 0 13 (dk_at dksX6_readsRule_1 15 rfl rfl)
theorem dX6_readsRule_42 : decode cX6_readsRule 42 = .ok (.aload_n 0, 1) := dk_42 (dk_at dksX6_readsRule_1 18 rfl rfl)
theorem dX6_readsRule_43 : decode cX6_readsRule 43 = .ok (.iconst 4, 1) := dk_7 (dk_at dksX6_readsRule_1 19 rfl rfl)
theorem dX6_readsRule_44 : decode cX6_readsRule 44 = .ok (.aload_n 0, 1) := dk_42 (dk_at dksX6_readsRule_1 20 rfl rfl)
theorem dX6_readsRule_45 : decode cX6_readsRule 45 = .ok (.getfield 125, 3) := dk_180 0 125 (dk_at dksX6_readsRule_1 21 rfl rfl)
theorem dX6_readsRule_48 : decode cX6_readsRule 48 = .ok (.invokevirtual 138, 3) := dk_182 0 138 (dk_at dksX6_readsRule_2 0 rfl rfl)
theorem dX6_readsRule_51 : decode cX6_readsRule 51 = .ok (.ireturn, 1) := dk_172 (dk_at dksX6_readsRule_2 3 rfl rfl)
theorem dX6_readsRule_52 : decode cX6_readsRule 52 = .ok (.aload_n 0, 1) := dk_42 (dk_at dksX6_readsRule_2 4 rfl rfl)
theorem dX6_readsRule_53 : decode cX6_readsRule 53 = .ok (.getfield 35, 3) := dk_180 0 35 (dk_at dksX6_readsRule_2 5 rfl rfl)
theorem dX6_readsRule_56 : decode cX6_readsRule 56 = .ok (.aload_n 0, 1) := dk_42 (dk_at dksX6_readsRule_2 8 rfl rfl)
theorem dX6_readsRule_57 : decode cX6_readsRule 57 = .ok (.getfield 203, 3) := dk_180 0 203 (dk_at dksX6_readsRule_2 9 rfl rfl)
theorem dX6_readsRule_60 : decode cX6_readsRule 60 = .ok (.iload_n 1, 1) := dk_27 (dk_at dksX6_readsRule_2 12 rfl rfl)
theorem dX6_readsRule_61 : decode cX6_readsRule 61 = .ok (.iastore, 1) := dk_79 (dk_at dksX6_readsRule_2 13 rfl rfl)
theorem dX6_readsRule_62 : decode cX6_readsRule 62 = .ok (.aload_n 0, 1) := dk_42 (dk_at dksX6_readsRule_2 14 rfl rfl)
theorem dX6_readsRule_63 : decode cX6_readsRule 63 = .ok (.aload_n 0, 1) := dk_42 (dk_at dksX6_readsRule_2 15 rfl rfl)
theorem dX6_readsRule_64 : decode cX6_readsRule 64 = .ok (.getfield 125, 3) := dk_180 0 125 (dk_at dksX6_readsRule_2 16 rfl rfl)
theorem dX6_readsRule_67 : decode cX6_readsRule 67 = .ok (.iconst 1, 1) := dk_4 (dk_at dksX6_readsRule_2 19 rfl rfl)
theorem dX6_readsRule_68 : decode cX6_readsRule 68 = .ok (.iadd, 1) := dk_96 (dk_at dksX6_readsRule_2 20 rfl rfl)
theorem dX6_readsRule_69 : decode cX6_readsRule 69 = .ok (.putfield 125, 3) := dk_181 0 125 (dk_at dksX6_readsRule_2 21 rfl rfl)
theorem dX6_readsRule_72 : decode cX6_readsRule 72 = .ok (.aload_n 0, 1) := dk_42 (dk_at dksX6_readsRule_3 0 rfl rfl)
theorem dX6_readsRule_73 : decode cX6_readsRule 73 = .ok (.getfield 38, 3) := dk_180 0 38 (dk_at dksX6_readsRule_3 1 rfl rfl)
theorem dX6_readsRule_76 : decode cX6_readsRule 76 = .ok (.aload_n 0, 1) := dk_42 (dk_at dksX6_readsRule_3 4 rfl rfl)
theorem dX6_readsRule_77 : decode cX6_readsRule 77 = .ok (.getfield 203, 3) := dk_180 0 203 (dk_at dksX6_readsRule_3 5 rfl rfl)
theorem dX6_readsRule_80 : decode cX6_readsRule 80 = .ok (.aload_n 0, 1) := dk_42 (dk_at dksX6_readsRule_3 8 rfl rfl)
theorem dX6_readsRule_81 : decode cX6_readsRule 81 = .ok (.getfield 148, 3) := dk_180 0 148 (dk_at dksX6_readsRule_3 9 rfl rfl)
theorem dX6_readsRule_84 : decode cX6_readsRule 84 = .ok (.iastore, 1) := dk_79 (dk_at dksX6_readsRule_3 12 rfl rfl)
theorem dX6_readsRule_85 : decode cX6_readsRule 85 = .ok (.aload_n 0, 1) := dk_42 (dk_at dksX6_readsRule_3 13 rfl rfl)
theorem dX6_readsRule_86 : decode cX6_readsRule 86 = .ok (.iconst 0, 1) := dk_3 (dk_at dksX6_readsRule_3 14 rfl rfl)
theorem dX6_readsRule_87 : decode cX6_readsRule 87 = .ok (.putfield 152, 3) := dk_181 0 152 (dk_at dksX6_readsRule_3 15 rfl rfl)
theorem dX6_readsRule_90 : decode cX6_readsRule 90 = .ok (.aload_n 0, 1) := dk_42 (dk_at dksX6_readsRule_3 18 rfl rfl)
theorem dX6_readsRule_91 : decode cX6_readsRule 91 = .ok (.iconst 0, 1) := dk_3 (dk_at dksX6_readsRule_3 19 rfl rfl)
theorem dX6_readsRule_92 : decode cX6_readsRule 92 = .ok (.putfield 155, 3) := dk_181 0 155 (dk_at dksX6_readsRule_3 20 rfl rfl)
theorem dX6_readsRule_95 : decode cX6_readsRule 95 = .ok (.iload_n 1, 1) := dk_27 (dk_at dksX6_readsRule_3 23 rfl rfl)
theorem dX6_readsRule_96 : decode cX6_readsRule 96 = .ok (.bipush 120, 2) := dk_16 120 (dk_at dksX6_readsRule_4 0 rfl rfl)
theorem dX6_readsRule_98 : decode cX6_readsRule 98 = .ok (.if_icmp .eq 12, 3) := dk_159 0 12 (dk_at dksX6_readsRule_4 2 rfl rfl)
theorem dX6_readsRule_101 : decode cX6_readsRule 101 = .ok (.aload_n 0, 1) := dk_42 (dk_at dksX6_readsRule_4 5 rfl rfl)
theorem dX6_readsRule_102 : decode cX6_readsRule 102 = .ok (.invokevirtual 188, 3) := dk_182 0 188 (dk_at dksX6_readsRule_4 6 rfl rfl)
theorem dX6_readsRule_105 : decode cX6_readsRule 105 = .ok (.ifCond .ne 5, 3) := dk_154 0 5 (dk_at dksX6_readsRule_4 9 rfl rfl)
theorem dX6_readsRule_108 : decode cX6_readsRule 108 = .ok (.iconst 0, 1) := dk_3 (dk_at dksX6_readsRule_4 12 rfl rfl)
theorem dX6_readsRule_109 : decode cX6_readsRule 109 = .ok (.ireturn, 1) := dk_172 (dk_at dksX6_readsRule_4 13 rfl rfl)
theorem dX6_readsRule_110 : decode cX6_readsRule 110 = .ok (.aload_n 0, 1) := dk_42 (dk_at dksX6_readsRule_4 14 rfl rfl)
theorem dX6_readsRule_111 : decode cX6_readsRule 111 = .ok (.getfield 41, 3) := dk_180 0 41 (dk_at dksX6_readsRule_4 15 rfl rfl)
theorem dX6_readsRule_114 : decode cX6_readsRule 114 = .ok (.aload_n 0, 1) := dk_42 (dk_at dksX6_readsRule_4 18 rfl rfl)
theorem dX6_readsRule_115 : decode cX6_readsRule 115 = .ok (.getfield 203, 3) := dk_180 0 203 (dk_at dksX6_readsRule_4 19 rfl rfl)
theorem dX6_readsRule_118 : decode cX6_readsRule 118 = .ok (.aload_n 0, 1) := dk_42 (dk_at dksX6_readsRule_4 22 rfl rfl)
theorem dX6_readsRule_119 : decode cX6_readsRule 119 = .ok (.getfield 148, 3) := dk_180 0 148 (dk_at dksX6_readsRule_5 0 rfl rfl)
theorem dX6_readsRule_122 : decode cX6_readsRule 122 = .ok (.iastore, 1) := dk_79 (dk_at dksX6_readsRule_5 3 rfl rfl)
theorem dX6_readsRule_123 : decode cX6_readsRule 123 = .ok (.aload_n 0, 1) := dk_42 (dk_at dksX6_readsRule_5 4 rfl rfl)
theorem dX6_readsRule_124 : decode cX6_readsRule 124 = .ok (.invokevirtual 206, 3) := dk_182 0 206 (dk_at dksX6_readsRule_5 5 rfl rfl)
theorem dX6_readsRule_127 : decode cX6_readsRule 127 = .ok (.ifCond .ne 5, 3) := dk_154 0 5 (dk_at dksX6_readsRule_5 8 rfl rfl)
theorem dX6_readsRule_130 : decode cX6_readsRule 130 = .ok (.iconst 0, 1) := dk_3 (dk_at dksX6_readsRule_5 11 rfl rfl)
theorem dX6_readsRule_131 : decode cX6_readsRule 131 = .ok (.ireturn, 1) := dk_172 (dk_at dksX6_readsRule_5 12 rfl rfl)
theorem dX6_readsRule_132 : decode cX6_readsRule 132 = .ok (.aload_n 0, 1) := dk_42 (dk_at dksX6_readsRule_5 13 rfl rfl)
theorem dX6_readsRule_133 : decode cX6_readsRule 133 = .ok (.getfield 44, 3) := dk_180 0 44 (dk_at dksX6_readsRule_5 14 rfl rfl)
theorem dX6_readsRule_136 : decode cX6_readsRule 136 = .ok (.aload_n 0, 1) := dk_42 (dk_at dksX6_readsRule_5 17 rfl rfl)
theorem dX6_readsRule_137 : decode cX6_readsRule 137 = .ok (.getfield 203, 3) := dk_180 0 203 (dk_at dksX6_readsRule_5 18 rfl rfl)
theorem dX6_readsRule_140 : decode cX6_readsRule 140 = .ok (.aload_n 0, 1) := dk_42 (dk_at dksX6_readsRule_5 21 rfl rfl)
theorem dX6_readsRule_141 : decode cX6_readsRule 141 = .ok (.getfield 148, 3) := dk_180 0 148 (dk_at dksX6_readsRule_6 0 rfl rfl)
theorem dX6_readsRule_144 : decode cX6_readsRule 144 = .ok (.iastore, 1) := dk_79 (dk_at dksX6_readsRule_6 3 rfl rfl)
theorem dX6_readsRule_145 : decode cX6_readsRule 145 = .ok (.aload_n 0, 1) := dk_42 (dk_at dksX6_readsRule_6 4 rfl rfl)
theorem dX6_readsRule_146 : decode cX6_readsRule 146 = .ok (.aload_n 0, 1) := dk_42 (dk_at dksX6_readsRule_6 5 rfl rfl)
theorem dX6_readsRule_147 : decode cX6_readsRule 147 = .ok (.getfield 203, 3) := dk_180 0 203 (dk_at dksX6_readsRule_6 6 rfl rfl)
theorem dX6_readsRule_150 : decode cX6_readsRule 150 = .ok (.iconst 1, 1) := dk_4 (dk_at dksX6_readsRule_6 9 rfl rfl)
theorem dX6_readsRule_151 : decode cX6_readsRule 151 = .ok (.iadd, 1) := dk_96 (dk_at dksX6_readsRule_6 10 rfl rfl)
theorem dX6_readsRule_152 : decode cX6_readsRule 152 = .ok (.putfield 203, 3) := dk_181 0 203 (dk_at dksX6_readsRule_6 11 rfl rfl)
theorem dX6_readsRule_155 : decode cX6_readsRule 155 = .ok (.iconst 1, 1) := dk_4 (dk_at dksX6_readsRule_6 14 rfl rfl)
theorem dX6_readsRule_156 : decode cX6_readsRule 156 = .ok (.ireturn, 1) := dk_172 (dk_at dksX6_readsRule_6 15 rfl rfl)
abbrev cX6_here : ByteArray := prog_20_method_18_code
def yX6_here : MethodName := ⟨RX6, "here", "()I"⟩
def dkwX6_here_1 : List UInt8 := [167, 0, 4, 2, 172]
abbrev dktX6_here_1 : List UInt8 := dkwX6_here_1 ++ []
def dkwX6_here_0 : List UInt8 := [42, 180, 0, 125, 42, 180, 0, 128, 162, 0, 19, 42, 180, 0, 25, 42, 180, 0, 125, 51, 17, 0, 255, 126]
abbrev dktX6_here_0 : List UInt8 := dkwX6_here_0 ++ dktX6_here_1
theorem dksX6_here_0 : cX6_here.data.toList.drop 0 = dktX6_here_0 := by decide +kernel
theorem dksX6_here_1 : cX6_here.data.toList.drop 24 = dktX6_here_1 := dk_seg dksX6_here_0 24 rfl rfl
theorem dX6_here_0 : decode cX6_here 0 = .ok (.aload_n 0, 1) := dk_42 (dk_at dksX6_here_0 0 rfl rfl)
theorem dX6_here_1 : decode cX6_here 1 = .ok (.getfield 125, 3) := dk_180 0 125 (dk_at dksX6_here_0 1 rfl rfl)
theorem dX6_here_4 : decode cX6_here 4 = .ok (.aload_n 0, 1) := dk_42 (dk_at dksX6_here_0 4 rfl rfl)
theorem dX6_here_5 : decode cX6_here 5 = .ok (.getfield 128, 3) := dk_180 0 128 (dk_at dksX6_here_0 5 rfl rfl)
theorem dX6_here_8 : decode cX6_here 8 = .ok (.if_icmp .ge 19, 3) := dk_162 0 19 (dk_at dksX6_here_0 8 rfl rfl)
theorem dX6_here_11 : decode cX6_here 11 = .ok (.aload_n 0, 1) := dk_42 (dk_at dksX6_here_0 11 rfl rfl)
theorem dX6_here_12 : decode cX6_here 12 = .ok (.getfield 25, 3) := dk_180 0 25 (dk_at dksX6_here_0 12 rfl rfl)
theorem dX6_here_15 : decode cX6_here 15 = .ok (.aload_n 0, 1) := dk_42 (dk_at dksX6_here_0 15 rfl rfl)
theorem dX6_here_16 : decode cX6_here 16 = .ok (.getfield 125, 3) := dk_180 0 125 (dk_at dksX6_here_0 16 rfl rfl)
theorem dX6_here_19 : decode cX6_here 19 = .ok (.baload, 1) := dk_51 (dk_at dksX6_here_0 19 rfl rfl)
theorem dX6_here_20 : decode cX6_here 20 = .ok (.sipush 255, 3) := dk_17 0 255 (dk_at dksX6_here_0 20 rfl rfl)
theorem dX6_here_23 : decode cX6_here 23 = .ok (.iand, 1) := dk_126 (dk_at dksX6_here_0 23 rfl rfl)
theorem dX6_here_24 : decode cX6_here 24 = .ok (.goto 4, 3) := dk_167 0 4 (dk_at dksX6_here_1 0 rfl rfl)
theorem dX6_here_27 : decode cX6_here 27 = .ok (.iconst (-1), 1) := dk_2 (dk_at dksX6_here_1 3 rfl rfl)
theorem dX6_here_28 : decode cX6_here 28 = .ok (.ireturn, 1) := dk_172 (dk_at dksX6_here_1 4 rfl rfl)
abbrev cX6_wrongAt : ByteArray := prog_20_method_20_code
def yX6_wrongAt : MethodName := ⟨RX6, "wrongAt", "(II)Z"⟩
def dkwX6_wrongAt_0 : List UInt8 := [42, 17, 252, 24, 27, 104, 28, 100, 181, 0, 135, 3, 172]
abbrev dktX6_wrongAt_0 : List UInt8 := dkwX6_wrongAt_0 ++ []
theorem dksX6_wrongAt_0 : cX6_wrongAt.data.toList.drop 0 = dktX6_wrongAt_0 := by decide +kernel
theorem dX6_wrongAt_0 : decode cX6_wrongAt 0 = .ok (.aload_n 0, 1) := dk_42 (dk_at dksX6_wrongAt_0 0 rfl rfl)
theorem dX6_wrongAt_1 : decode cX6_wrongAt 1 = .ok (.sipush (-1000), 3) := dk_17 252 24 (dk_at dksX6_wrongAt_0 1 rfl rfl)
theorem dX6_wrongAt_4 : decode cX6_wrongAt 4 = .ok (.iload_n 1, 1) := dk_27 (dk_at dksX6_wrongAt_0 4 rfl rfl)
theorem dX6_wrongAt_5 : decode cX6_wrongAt 5 = .ok (.imul, 1) := dk_104 (dk_at dksX6_wrongAt_0 5 rfl rfl)
theorem dX6_wrongAt_6 : decode cX6_wrongAt 6 = .ok (.iload_n 2, 1) := dk_28 (dk_at dksX6_wrongAt_0 6 rfl rfl)
theorem dX6_wrongAt_7 : decode cX6_wrongAt 7 = .ok (.isub, 1) := dk_100 (dk_at dksX6_wrongAt_0 7 rfl rfl)
theorem dX6_wrongAt_8 : decode cX6_wrongAt 8 = .ok (.putfield 135, 3) := dk_181 0 135 (dk_at dksX6_wrongAt_0 8 rfl rfl)
theorem dX6_wrongAt_11 : decode cX6_wrongAt 11 = .ok (.iconst 0, 1) := dk_3 (dk_at dksX6_wrongAt_0 11 rfl rfl)
theorem dX6_wrongAt_12 : decode cX6_wrongAt 12 = .ok (.ireturn, 1) := dk_172 (dk_at dksX6_wrongAt_0 12 rfl rfl)
abbrev cX6_readsSum : ByteArray := prog_20_method_31_code
def yX6_readsSum : MethodName := ⟨RX6, "readsSum", "()Z"⟩
def dkwX6_readsSum_7 : List UInt8 := [167, 255, 107]
abbrev dktX6_readsSum_7 : List UInt8 := dkwX6_readsSum_7 ++ []
def dkwX6_readsSum_6 : List UInt8 := [182, 0, 185, 153, 0, 13, 42, 4, 42, 180, 0, 125, 182, 0, 138, 172, 42, 4, 182, 0, 181, 4, 172]
abbrev dktX6_readsSum_6 : List UInt8 := dkwX6_readsSum_6 ++ dktX6_readsSum_7
def dkwX6_readsSum_5 : List UInt8 := [180, 0, 152, 4, 100, 181, 0, 152, 42, 42, 180, 0, 125, 4, 96, 181, 0, 125, 167, 0, 28, 42, 27]
abbrev dktX6_readsSum_5 : List UInt8 := dkwX6_readsSum_5 ++ dktX6_readsSum_6
def dkwX6_readsSum_4 : List UInt8 := [182, 0, 185, 153, 0, 41, 42, 4, 182, 0, 181, 42, 42, 180, 0, 155, 4, 100, 181, 0, 155, 42, 42]
abbrev dktX6_readsSum_4 : List UInt8 := dkwX6_readsSum_4 ++ dktX6_readsSum_5
def dkwX6_readsSum_3 : List UInt8 := [96, 181, 0, 125, 42, 182, 0, 175, 154, 0, 85, 3, 172, 42, 182, 0, 131, 16, 93, 160, 0, 49, 42, 27]
abbrev dktX6_readsSum_3 : List UInt8 := dkwX6_readsSum_3 ++ dktX6_readsSum_4
def dkwX6_readsSum_2 : List UInt8 := [180, 0, 155, 18, 151, 28, 104, 79, 42, 42, 180, 0, 155, 4, 96, 181, 0, 155, 42, 42, 180, 0, 125, 4]
abbrev dktX6_readsSum_2 : List UInt8 := dkwX6_readsSum_2 ++ dktX6_readsSum_3
def dkwX6_readsSum_1 : List UInt8 := [159, 0, 59, 42, 28, 7, 162, 0, 7, 4, 167, 0, 4, 3, 182, 0, 181, 42, 180, 0, 32, 42]
abbrev dktX6_readsSum_1 : List UInt8 := dkwX6_readsSum_1 ++ dktX6_readsSum_2
def dkwX6_readsSum_0 : List UInt8 := [42, 180, 0, 155, 60, 42, 182, 0, 175, 154, 0, 5, 3, 172, 42, 182, 0, 131, 184, 0, 178, 61, 28, 2]
abbrev dktX6_readsSum_0 : List UInt8 := dkwX6_readsSum_0 ++ dktX6_readsSum_1
theorem dksX6_readsSum_0 : cX6_readsSum.data.toList.drop 0 = dktX6_readsSum_0 := by decide +kernel
theorem dksX6_readsSum_1 : cX6_readsSum.data.toList.drop 24 = dktX6_readsSum_1 := dk_seg dksX6_readsSum_0 24 rfl rfl
theorem dksX6_readsSum_2 : cX6_readsSum.data.toList.drop 46 = dktX6_readsSum_2 := dk_seg dksX6_readsSum_1 22 rfl rfl
theorem dksX6_readsSum_3 : cX6_readsSum.data.toList.drop 70 = dktX6_readsSum_3 := dk_seg dksX6_readsSum_2 24 rfl rfl
theorem dksX6_readsSum_4 : cX6_readsSum.data.toList.drop 94 = dktX6_readsSum_4 := dk_seg dksX6_readsSum_3 24 rfl rfl
theorem dksX6_readsSum_5 : cX6_readsSum.data.toList.drop 117 = dktX6_readsSum_5 := dk_seg dksX6_readsSum_4 23 rfl rfl
theorem dksX6_readsSum_6 : cX6_readsSum.data.toList.drop 140 = dktX6_readsSum_6 := dk_seg dksX6_readsSum_5 23 rfl rfl
theorem dksX6_readsSum_7 : cX6_readsSum.data.toList.drop 163 = dktX6_readsSum_7 := dk_seg dksX6_readsSum_6 23 rfl rfl
theorem dX6_readsSum_0 : decode cX6_readsSum 0 = .ok (.aload_n 0, 1) := dk_42 (dk_at dksX6_readsSum_0 0 rfl rfl)
theorem dX6_readsSum_1 : decode cX6_readsSum 1 = .ok (.getfield 155, 3) := dk_180 0 155 (dk_at dksX6_readsSum_0 1 rfl rfl)
theorem dX6_readsSum_4 : decode cX6_readsSum 4 = .ok (.istore_n 1, 1) := dk_60 (dk_at dksX6_readsSum_0 4 rfl rfl)
theorem dX6_readsSum_5 : decode cX6_readsSum 5 = .ok (.aload_n 0, 1) := dk_42 (dk_at dksX6_readsSum_0 5 rfl rfl)
theorem dX6_readsSum_6 : decode cX6_readsSum 6 = .ok (.invokevirtual 175, 3) := dk_182 0 175 (dk_at dksX6_readsSum_0 6 rfl rfl)
theorem dX6_readsSum_9 : decode cX6_readsSum 9 = .ok (.ifCond .ne 5, 3) := dk_154 0 5 (dk_at dksX6_readsSum_0 9 rfl rfl)
theorem dX6_readsSum_12 : decode cX6_readsSum 12 = .ok (.iconst 0, 1) := dk_3 (dk_at dksX6_readsSum_0 12 rfl rfl)
theorem dX6_readsSum_13 : decode cX6_readsSum 13 = .ok (.ireturn, 1) := dk_172 (dk_at dksX6_readsSum_0 13 rfl rfl)
theorem dX6_readsSum_14 : decode cX6_readsSum 14 = .ok (.aload_n 0, 1) := dk_42 (dk_at dksX6_readsSum_0 14 rfl rfl)
theorem dX6_readsSum_15 : decode cX6_readsSum 15 = .ok (.invokevirtual 131, 3) := dk_182 0 131 (dk_at dksX6_readsSum_0 15 rfl rfl)
theorem dX6_readsSum_18 : decode cX6_readsSum 18 = .ok (.invokestatic 178, 3) := dk_184 0 178 (dk_at dksX6_readsSum_0 18 rfl rfl)
theorem dX6_readsSum_21 : decode cX6_readsSum 21 = .ok (.istore_n 2, 1) := dk_61 (dk_at dksX6_readsSum_0 21 rfl rfl)
theorem dX6_readsSum_22 : decode cX6_readsSum 22 = .ok (.iload_n 2, 1) := dk_28 (dk_at dksX6_readsSum_0 22 rfl rfl)
theorem dX6_readsSum_23 : decode cX6_readsSum 23 = .ok (.iconst (-1), 1) := dk_2 (dk_at dksX6_readsSum_0 23 rfl rfl)
theorem dX6_readsSum_24 : decode cX6_readsSum 24 = .ok (.if_icmp .eq 59, 3) := dk_159 0 59 (dk_at dksX6_readsSum_1 0 rfl rfl)
theorem dX6_readsSum_27 : decode cX6_readsSum 27 = .ok (.aload_n 0, 1) := dk_42 (dk_at dksX6_readsSum_1 3 rfl rfl)
theorem dX6_readsSum_28 : decode cX6_readsSum 28 = .ok (.iload_n 2, 1) := dk_28 (dk_at dksX6_readsSum_1 4 rfl rfl)
theorem dX6_readsSum_29 : decode cX6_readsSum 29 = .ok (.iconst 4, 1) := dk_7 (dk_at dksX6_readsSum_1 5 rfl rfl)
theorem dX6_readsSum_30 : decode cX6_readsSum 30 = .ok (.if_icmp .ge 7, 3) := dk_162 0 7 (dk_at dksX6_readsSum_1 6 rfl rfl)
theorem dX6_readsSum_33 : decode cX6_readsSum 33 = .ok (.iconst 1, 1) := dk_4 (dk_at dksX6_readsSum_1 9 rfl rfl)
theorem dX6_readsSum_34 : decode cX6_readsSum 34 = .ok (.goto 4, 3) := dk_167 0 4 (dk_at dksX6_readsSum_1 10 rfl rfl)
theorem dX6_readsSum_37 : decode cX6_readsSum 37 = .ok (.iconst 0, 1) := dk_3 (dk_at dksX6_readsSum_1 13 rfl rfl)
theorem dX6_readsSum_38 : decode cX6_readsSum 38 = .ok (.invokevirtual 181, 3) := dk_182 0 181 (dk_at dksX6_readsSum_1 14 rfl rfl)
theorem dX6_readsSum_41 : decode cX6_readsSum 41 = .ok (.aload_n 0, 1) := dk_42 (dk_at dksX6_readsSum_1 17 rfl rfl)
theorem dX6_readsSum_42 : decode cX6_readsSum 42 = .ok (.getfield 32, 3) := dk_180 0 32 (dk_at dksX6_readsSum_1 18 rfl rfl)
theorem dX6_readsSum_45 : decode cX6_readsSum 45 = .ok (.aload_n 0, 1) := dk_42 (dk_at dksX6_readsSum_1 21 rfl rfl)
theorem dX6_readsSum_46 : decode cX6_readsSum 46 = .ok (.getfield 155, 3) := dk_180 0 155 (dk_at dksX6_readsSum_2 0 rfl rfl)
theorem dX6_readsSum_49 : decode cX6_readsSum 49 = .ok (.ldc 151, 2) := dk_18 151 (dk_at dksX6_readsSum_2 3 rfl rfl)
theorem dX6_readsSum_51 : decode cX6_readsSum 51 = .ok (.iload_n 2, 1) := dk_28 (dk_at dksX6_readsSum_2 5 rfl rfl)
theorem dX6_readsSum_52 : decode cX6_readsSum 52 = .ok (.imul, 1) := dk_104 (dk_at dksX6_readsSum_2 6 rfl rfl)
theorem dX6_readsSum_53 : decode cX6_readsSum 53 = .ok (.iastore, 1) := dk_79 (dk_at dksX6_readsSum_2 7 rfl rfl)
theorem dX6_readsSum_54 : decode cX6_readsSum 54 = .ok (.aload_n 0, 1) := dk_42 (dk_at dksX6_readsSum_2 8 rfl rfl)
theorem dX6_readsSum_55 : decode cX6_readsSum 55 = .ok (.aload_n 0, 1) := dk_42 (dk_at dksX6_readsSum_2 9 rfl rfl)
theorem dX6_readsSum_56 : decode cX6_readsSum 56 = .ok (.getfield 155, 3) := dk_180 0 155 (dk_at dksX6_readsSum_2 10 rfl rfl)
theorem dX6_readsSum_59 : decode cX6_readsSum 59 = .ok (.iconst 1, 1) := dk_4 (dk_at dksX6_readsSum_2 13 rfl rfl)
theorem dX6_readsSum_60 : decode cX6_readsSum 60 = .ok (.iadd, 1) := dk_96 (dk_at dksX6_readsSum_2 14 rfl rfl)
theorem dX6_readsSum_61 : decode cX6_readsSum 61 = .ok (.putfield 155, 3) := dk_181 0 155 (dk_at dksX6_readsSum_2 15 rfl rfl)
theorem dX6_readsSum_64 : decode cX6_readsSum 64 = .ok (.aload_n 0, 1) := dk_42 (dk_at dksX6_readsSum_2 18 rfl rfl)
theorem dX6_readsSum_65 : decode cX6_readsSum 65 = .ok (.aload_n 0, 1) := dk_42 (dk_at dksX6_readsSum_2 19 rfl rfl)
theorem dX6_readsSum_66 : decode cX6_readsSum 66 = .ok (.getfield 125, 3) := dk_180 0 125 (dk_at dksX6_readsSum_2 20 rfl rfl)
theorem dX6_readsSum_69 : decode cX6_readsSum 69 = .ok (.iconst 1, 1) := dk_4 (dk_at dksX6_readsSum_2 23 rfl rfl)
theorem dX6_readsSum_70 : decode cX6_readsSum 70 = .ok (.iadd, 1) := dk_96 (dk_at dksX6_readsSum_3 0 rfl rfl)
theorem dX6_readsSum_71 : decode cX6_readsSum 71 = .ok (.putfield 125, 3) := dk_181 0 125 (dk_at dksX6_readsSum_3 1 rfl rfl)
theorem dX6_readsSum_74 : decode cX6_readsSum 74 = .ok (.aload_n 0, 1) := dk_42 (dk_at dksX6_readsSum_3 4 rfl rfl)
theorem dX6_readsSum_75 : decode cX6_readsSum 75 = .ok (.invokevirtual 175, 3) := dk_182 0 175 (dk_at dksX6_readsSum_3 5 rfl rfl)
theorem dX6_readsSum_78 : decode cX6_readsSum 78 = .ok (.ifCond .ne 85, 3) := dk_154 0 85 (dk_at dksX6_readsSum_3 8 rfl rfl)
theorem dX6_readsSum_81 : decode cX6_readsSum 81 = .ok (.iconst 0, 1) := dk_3 (dk_at dksX6_readsSum_3 11 rfl rfl)
theorem dX6_readsSum_82 : decode cX6_readsSum 82 = .ok (.ireturn, 1) := dk_172 (dk_at dksX6_readsSum_3 12 rfl rfl)
theorem dX6_readsSum_83 : decode cX6_readsSum 83 = .ok (.aload_n 0, 1) := dk_42 (dk_at dksX6_readsSum_3 13 rfl rfl)
theorem dX6_readsSum_84 : decode cX6_readsSum 84 = .ok (.invokevirtual 131, 3) := dk_182 0 131 (dk_at dksX6_readsSum_3 14 rfl rfl)
theorem dX6_readsSum_87 : decode cX6_readsSum 87 = .ok (.bipush 93, 2) := dk_16 93 (dk_at dksX6_readsSum_3 17 rfl rfl)
theorem dX6_readsSum_89 : decode cX6_readsSum 89 = .ok (.if_icmp .ne 49, 3) := dk_160 0 49 (dk_at dksX6_readsSum_3 19 rfl rfl)
theorem dX6_readsSum_92 : decode cX6_readsSum 92 = .ok (.aload_n 0, 1) := dk_42 (dk_at dksX6_readsSum_3 22 rfl rfl)
theorem dX6_readsSum_93 : decode cX6_readsSum 93 = .ok (.iload_n 1, 1) := dk_27 (dk_at dksX6_readsSum_3 23 rfl rfl)
theorem dX6_readsSum_94 : decode cX6_readsSum 94 = .ok (.invokevirtual 185, 3) := dk_182 0 185 (dk_at dksX6_readsSum_4 0 rfl rfl)
theorem dX6_readsSum_97 : decode cX6_readsSum 97 = .ok (.ifCond .eq 41, 3) := dk_153 0 41 (dk_at dksX6_readsSum_4 3 rfl rfl)
theorem dX6_readsSum_100 : decode cX6_readsSum 100 = .ok (.aload_n 0, 1) := dk_42 (dk_at dksX6_readsSum_4 6 rfl rfl)
theorem dX6_readsSum_101 : decode cX6_readsSum 101 = .ok (.iconst 1, 1) := dk_4 (dk_at dksX6_readsSum_4 7 rfl rfl)
theorem dX6_readsSum_102 : decode cX6_readsSum 102 = .ok (.invokevirtual 181, 3) := dk_182 0 181 (dk_at dksX6_readsSum_4 8 rfl rfl)
theorem dX6_readsSum_105 : decode cX6_readsSum 105 = .ok (.aload_n 0, 1) := dk_42 (dk_at dksX6_readsSum_4 11 rfl rfl)
theorem dX6_readsSum_106 : decode cX6_readsSum 106 = .ok (.aload_n 0, 1) := dk_42 (dk_at dksX6_readsSum_4 12 rfl rfl)
theorem dX6_readsSum_107 : decode cX6_readsSum 107 = .ok (.getfield 155, 3) := dk_180 0 155 (dk_at dksX6_readsSum_4 13 rfl rfl)
theorem dX6_readsSum_110 : decode cX6_readsSum 110 = .ok (.iconst 1, 1) := dk_4 (dk_at dksX6_readsSum_4 16 rfl rfl)
theorem dX6_readsSum_111 : decode cX6_readsSum 111 = .ok (.isub, 1) := dk_100 (dk_at dksX6_readsSum_4 17 rfl rfl)
theorem dX6_readsSum_112 : decode cX6_readsSum 112 = .ok (.putfield 155, 3) := dk_181 0 155 (dk_at dksX6_readsSum_4 18 rfl rfl)
theorem dX6_readsSum_115 : decode cX6_readsSum 115 = .ok (.aload_n 0, 1) := dk_42 (dk_at dksX6_readsSum_4 21 rfl rfl)
theorem dX6_readsSum_116 : decode cX6_readsSum 116 = .ok (.aload_n 0, 1) := dk_42 (dk_at dksX6_readsSum_4 22 rfl rfl)
theorem dX6_readsSum_117 : decode cX6_readsSum 117 = .ok (.getfield 152, 3) := dk_180 0 152 (dk_at dksX6_readsSum_5 0 rfl rfl)
theorem dX6_readsSum_120 : decode cX6_readsSum 120 = .ok (.iconst 1, 1) := dk_4 (dk_at dksX6_readsSum_5 3 rfl rfl)
theorem dX6_readsSum_121 : decode cX6_readsSum 121 = .ok (.isub, 1) := dk_100 (dk_at dksX6_readsSum_5 4 rfl rfl)
theorem dX6_readsSum_122 : decode cX6_readsSum 122 = .ok (.putfield 152, 3) := dk_181 0 152 (dk_at dksX6_readsSum_5 5 rfl rfl)
theorem dX6_readsSum_125 : decode cX6_readsSum 125 = .ok (.aload_n 0, 1) := dk_42 (dk_at dksX6_readsSum_5 8 rfl rfl)
theorem dX6_readsSum_126 : decode cX6_readsSum 126 = .ok (.aload_n 0, 1) := dk_42 (dk_at dksX6_readsSum_5 9 rfl rfl)
theorem dX6_readsSum_127 : decode cX6_readsSum 127 = .ok (.getfield 125, 3) := dk_180 0 125 (dk_at dksX6_readsSum_5 10 rfl rfl)
theorem dX6_readsSum_130 : decode cX6_readsSum 130 = .ok (.iconst 1, 1) := dk_4 (dk_at dksX6_readsSum_5 13 rfl rfl)
theorem dX6_readsSum_131 : decode cX6_readsSum 131 = .ok (.iadd, 1) := dk_96 (dk_at dksX6_readsSum_5 14 rfl rfl)
theorem dX6_readsSum_132 : decode cX6_readsSum 132 = .ok (.putfield 125, 3) := dk_181 0 125 (dk_at dksX6_readsSum_5 15 rfl rfl)
theorem dX6_readsSum_135 : decode cX6_readsSum 135 = .ok (.goto 28, 3) := dk_167 0 28 (dk_at dksX6_readsSum_5 18 rfl rfl)
theorem dX6_readsSum_138 : decode cX6_readsSum 138 = .ok (.aload_n 0, 1) := dk_42 (dk_at dksX6_readsSum_5 21 rfl rfl)
theorem dX6_readsSum_139 : decode cX6_readsSum 139 = .ok (.iload_n 1, 1) := dk_27 (dk_at dksX6_readsSum_5 22 rfl rfl)
theorem dX6_readsSum_140 : decode cX6_readsSum 140 = .ok (.invokevirtual 185, 3) := dk_182 0 185 (dk_at dksX6_readsSum_6 0 rfl rfl)
theorem dX6_readsSum_143 : decode cX6_readsSum 143 = .ok (.ifCond .eq 13, 3) := dk_153 0 13 (dk_at dksX6_readsSum_6 3 rfl rfl)
theorem dX6_readsSum_146 : decode cX6_readsSum 146 = .ok (.aload_n 0, 1) := dk_42 (dk_at dksX6_readsSum_6 6 rfl rfl)
theorem dX6_readsSum_147 : decode cX6_readsSum 147 = .ok (.iconst 1, 1) := dk_4 (dk_at dksX6_readsSum_6 7 rfl rfl)
theorem dX6_readsSum_148 : decode cX6_readsSum 148 = .ok (.aload_n 0, 1) := dk_42 (dk_at dksX6_readsSum_6 8 rfl rfl)
theorem dX6_readsSum_149 : decode cX6_readsSum 149 = .ok (.getfield 125, 3) := dk_180 0 125 (dk_at dksX6_readsSum_6 9 rfl rfl)
theorem dX6_readsSum_152 : decode cX6_readsSum 152 = .ok (.invokevirtual 138, 3) := dk_182 0 138 (dk_at dksX6_readsSum_6 12 rfl rfl)
theorem dX6_readsSum_155 : decode cX6_readsSum 155 = .ok (.ireturn, 1) := dk_172 (dk_at dksX6_readsSum_6 15 rfl rfl)
theorem dX6_readsSum_156 : decode cX6_readsSum 156 = .ok (.aload_n 0, 1) := dk_42 (dk_at dksX6_readsSum_6 16 rfl rfl)
theorem dX6_readsSum_157 : decode cX6_readsSum 157 = .ok (.iconst 1, 1) := dk_4 (dk_at dksX6_readsSum_6 17 rfl rfl)
theorem dX6_readsSum_158 : decode cX6_readsSum 158 = .ok (.invokevirtual 181, 3) := dk_182 0 181 (dk_at dksX6_readsSum_6 18 rfl rfl)
theorem dX6_readsSum_161 : decode cX6_readsSum 161 = .ok (.iconst 1, 1) := dk_4 (dk_at dksX6_readsSum_6 21 rfl rfl)
theorem dX6_readsSum_162 : decode cX6_readsSum 162 = .ok (.ireturn, 1) := dk_172 (dk_at dksX6_readsSum_6 22 rfl rfl)
theorem dX6_readsSum_163 : decode cX6_readsSum 163 = .ok (.goto (-149), 3) := dk_167 255 107 (dk_at dksX6_readsSum_7 0 rfl rfl)
abbrev cX6_readsFactor : ByteArray := prog_20_method_29_code
def yX6_readsFactor : MethodName := ⟨RX6, "readsFactor", "()Z"⟩
def dkwX6_readsFactor_3 : List UInt8 := [27, 182, 0, 161, 42, 42, 180, 0, 125, 4, 96, 181, 0, 125, 4, 172]
abbrev dktX6_readsFactor_3 : List UInt8 := dkwX6_readsFactor_3 ++ []
def dkwX6_readsFactor_2 : List UInt8 := [182, 0, 131, 184, 0, 171, 60, 27, 2, 160, 0, 13, 42, 4, 42, 180, 0, 125, 182, 0, 138, 172, 42, 4]
abbrev dktX6_readsFactor_2 : List UInt8 := dkwX6_readsFactor_2 ++ dktX6_readsFactor_3
def dkwX6_readsFactor_1 : List UInt8 := [153, 0, 23, 42, 182, 0, 168, 154, 0, 5, 3, 172, 42, 3, 42, 180, 0, 141, 182, 0, 161, 4, 172, 42]
abbrev dktX6_readsFactor_1 : List UInt8 := dkwX6_readsFactor_1 ++ dktX6_readsFactor_2
def dkwX6_readsFactor_0 : List UInt8 := [42, 182, 0, 131, 16, 91, 160, 0, 14, 42, 16, 14, 182, 0, 165, 154, 255, 241, 3, 172, 42, 182, 0, 144]
abbrev dktX6_readsFactor_0 : List UInt8 := dkwX6_readsFactor_0 ++ dktX6_readsFactor_1
theorem dksX6_readsFactor_0 : cX6_readsFactor.data.toList.drop 0 = dktX6_readsFactor_0 := by decide +kernel
theorem dksX6_readsFactor_1 : cX6_readsFactor.data.toList.drop 24 = dktX6_readsFactor_1 := dk_seg dksX6_readsFactor_0 24 rfl rfl
theorem dksX6_readsFactor_2 : cX6_readsFactor.data.toList.drop 48 = dktX6_readsFactor_2 := dk_seg dksX6_readsFactor_1 24 rfl rfl
theorem dksX6_readsFactor_3 : cX6_readsFactor.data.toList.drop 72 = dktX6_readsFactor_3 := dk_seg dksX6_readsFactor_2 24 rfl rfl
theorem dX6_readsFactor_0 : decode cX6_readsFactor 0 = .ok (.aload_n 0, 1) := dk_42 (dk_at dksX6_readsFactor_0 0 rfl rfl)
theorem dX6_readsFactor_1 : decode cX6_readsFactor 1 = .ok (.invokevirtual 131, 3) := dk_182 0 131 (dk_at dksX6_readsFactor_0 1 rfl rfl)
theorem dX6_readsFactor_4 : decode cX6_readsFactor 4 = .ok (.bipush 91, 2) := dk_16 91 (dk_at dksX6_readsFactor_0 4 rfl rfl)
theorem dX6_readsFactor_6 : decode cX6_readsFactor 6 = .ok (.if_icmp .ne 14, 3) := dk_160 0 14 (dk_at dksX6_readsFactor_0 6 rfl rfl)
theorem dX6_readsFactor_9 : decode cX6_readsFactor 9 = .ok (.aload_n 0, 1) := dk_42 (dk_at dksX6_readsFactor_0 9 rfl rfl)
theorem dX6_readsFactor_10 : decode cX6_readsFactor 10 = .ok (.bipush 14, 2) := dk_16 14 (dk_at dksX6_readsFactor_0 10 rfl rfl)
theorem dX6_readsFactor_12 : decode cX6_readsFactor 12 = .ok (.invokevirtual 165, 3) := dk_182 0 165 (dk_at dksX6_readsFactor_0 12 rfl rfl)
theorem dX6_readsFactor_15 : decode cX6_readsFactor 15 = .ok (.ifCond .ne (-15), 3) := dk_154 255 241 (dk_at dksX6_readsFactor_0 15 rfl rfl)
theorem dX6_readsFactor_18 : decode cX6_readsFactor 18 = .ok (.iconst 0, 1) := dk_3 (dk_at dksX6_readsFactor_0 18 rfl rfl)
theorem dX6_readsFactor_19 : decode cX6_readsFactor 19 = .ok (.ireturn, 1) := dk_172 (dk_at dksX6_readsFactor_0 19 rfl rfl)
theorem dX6_readsFactor_20 : decode cX6_readsFactor 20 = .ok (.aload_n 0, 1) := dk_42 (dk_at dksX6_readsFactor_0 20 rfl rfl)
theorem dX6_readsFactor_21 : decode cX6_readsFactor 21 = .ok (.invokevirtual 144, 3) := dk_182 0 144 (dk_at dksX6_readsFactor_0 21 rfl rfl)
theorem dX6_readsFactor_24 : decode cX6_readsFactor 24 = .ok (.ifCond .eq 23, 3) := dk_153 0 23 (dk_at dksX6_readsFactor_1 0 rfl rfl)
theorem dX6_readsFactor_27 : decode cX6_readsFactor 27 = .ok (.aload_n 0, 1) := dk_42 (dk_at dksX6_readsFactor_1 3 rfl rfl)
theorem dX6_readsFactor_28 : decode cX6_readsFactor 28 = .ok (.invokevirtual 168, 3) := dk_182 0 168 (dk_at dksX6_readsFactor_1 4 rfl rfl)
theorem dX6_readsFactor_31 : decode cX6_readsFactor 31 = .ok (.ifCond .ne 5, 3) := dk_154 0 5 (dk_at dksX6_readsFactor_1 7 rfl rfl)
theorem dX6_readsFactor_34 : decode cX6_readsFactor 34 = .ok (.iconst 0, 1) := dk_3 (dk_at dksX6_readsFactor_1 10 rfl rfl)
theorem dX6_readsFactor_35 : decode cX6_readsFactor 35 = .ok (.ireturn, 1) := dk_172 (dk_at dksX6_readsFactor_1 11 rfl rfl)
theorem dX6_readsFactor_36 : decode cX6_readsFactor 36 = .ok (.aload_n 0, 1) := dk_42 (dk_at dksX6_readsFactor_1 12 rfl rfl)
theorem dX6_readsFactor_37 : decode cX6_readsFactor 37 = .ok (.iconst 0, 1) := dk_3 (dk_at dksX6_readsFactor_1 13 rfl rfl)
theorem dX6_readsFactor_38 : decode cX6_readsFactor 38 = .ok (.aload_n 0, 1) := dk_42 (dk_at dksX6_readsFactor_1 14 rfl rfl)
theorem dX6_readsFactor_39 : decode cX6_readsFactor 39 = .ok (.getfield 141, 3) := dk_180 0 141 (dk_at dksX6_readsFactor_1 15 rfl rfl)
theorem dX6_readsFactor_42 : decode cX6_readsFactor 42 = .ok (.invokevirtual 161, 3) := dk_182 0 161 (dk_at dksX6_readsFactor_1 18 rfl rfl)
theorem dX6_readsFactor_45 : decode cX6_readsFactor 45 = .ok (.iconst 1, 1) := dk_4 (dk_at dksX6_readsFactor_1 21 rfl rfl)
theorem dX6_readsFactor_46 : decode cX6_readsFactor 46 = .ok (.ireturn, 1) := dk_172 (dk_at dksX6_readsFactor_1 22 rfl rfl)
theorem dX6_readsFactor_47 : decode cX6_readsFactor 47 = .ok (.aload_n 0, 1) := dk_42 (dk_at dksX6_readsFactor_1 23 rfl rfl)
theorem dX6_readsFactor_48 : decode cX6_readsFactor 48 = .ok (.invokevirtual 131, 3) := dk_182 0 131 (dk_at dksX6_readsFactor_2 0 rfl rfl)
theorem dX6_readsFactor_51 : decode cX6_readsFactor 51 = .ok (.invokestatic 171, 3) := dk_184 0 171 (dk_at dksX6_readsFactor_2 3 rfl rfl)
theorem dX6_readsFactor_54 : decode cX6_readsFactor 54 = .ok (.istore_n 1, 1) := dk_60 (dk_at dksX6_readsFactor_2 6 rfl rfl)
theorem dX6_readsFactor_55 : decode cX6_readsFactor 55 = .ok (.iload_n 1, 1) := dk_27 (dk_at dksX6_readsFactor_2 7 rfl rfl)
theorem dX6_readsFactor_56 : decode cX6_readsFactor 56 = .ok (.iconst (-1), 1) := dk_2 (dk_at dksX6_readsFactor_2 8 rfl rfl)
theorem dX6_readsFactor_57 : decode cX6_readsFactor 57 = .ok (.if_icmp .ne 13, 3) := dk_160 0 13 (dk_at dksX6_readsFactor_2 9 rfl rfl)
theorem dX6_readsFactor_60 : decode cX6_readsFactor 60 = .ok (.aload_n 0, 1) := dk_42 (dk_at dksX6_readsFactor_2 12 rfl rfl)
theorem dX6_readsFactor_61 : decode cX6_readsFactor 61 = .ok (.iconst 1, 1) := dk_4 (dk_at dksX6_readsFactor_2 13 rfl rfl)
theorem dX6_readsFactor_62 : decode cX6_readsFactor 62 = .ok (.aload_n 0, 1) := dk_42 (dk_at dksX6_readsFactor_2 14 rfl rfl)
theorem dX6_readsFactor_63 : decode cX6_readsFactor 63 = .ok (.getfield 125, 3) := dk_180 0 125 (dk_at dksX6_readsFactor_2 15 rfl rfl)
theorem dX6_readsFactor_66 : decode cX6_readsFactor 66 = .ok (.invokevirtual 138, 3) := dk_182 0 138 (dk_at dksX6_readsFactor_2 18 rfl rfl)
theorem dX6_readsFactor_69 : decode cX6_readsFactor 69 = .ok (.ireturn, 1) := dk_172 (dk_at dksX6_readsFactor_2 21 rfl rfl)
theorem dX6_readsFactor_70 : decode cX6_readsFactor 70 = .ok (.aload_n 0, 1) := dk_42 (dk_at dksX6_readsFactor_2 22 rfl rfl)
theorem dX6_readsFactor_71 : decode cX6_readsFactor 71 = .ok (.iconst 1, 1) := dk_4 (dk_at dksX6_readsFactor_2 23 rfl rfl)
theorem dX6_readsFactor_72 : decode cX6_readsFactor 72 = .ok (.iload_n 1, 1) := dk_27 (dk_at dksX6_readsFactor_3 0 rfl rfl)
theorem dX6_readsFactor_73 : decode cX6_readsFactor 73 = .ok (.invokevirtual 161, 3) := dk_182 0 161 (dk_at dksX6_readsFactor_3 1 rfl rfl)
theorem dX6_readsFactor_76 : decode cX6_readsFactor 76 = .ok (.aload_n 0, 1) := dk_42 (dk_at dksX6_readsFactor_3 4 rfl rfl)
theorem dX6_readsFactor_77 : decode cX6_readsFactor 77 = .ok (.aload_n 0, 1) := dk_42 (dk_at dksX6_readsFactor_3 5 rfl rfl)
theorem dX6_readsFactor_78 : decode cX6_readsFactor 78 = .ok (.getfield 125, 3) := dk_180 0 125 (dk_at dksX6_readsFactor_3 6 rfl rfl)
theorem dX6_readsFactor_81 : decode cX6_readsFactor 81 = .ok (.iconst 1, 1) := dk_4 (dk_at dksX6_readsFactor_3 9 rfl rfl)
theorem dX6_readsFactor_82 : decode cX6_readsFactor 82 = .ok (.iadd, 1) := dk_96 (dk_at dksX6_readsFactor_3 10 rfl rfl)
theorem dX6_readsFactor_83 : decode cX6_readsFactor 83 = .ok (.putfield 125, 3) := dk_181 0 125 (dk_at dksX6_readsFactor_3 11 rfl rfl)
theorem dX6_readsFactor_86 : decode cX6_readsFactor 86 = .ok (.iconst 1, 1) := dk_4 (dk_at dksX6_readsFactor_3 14 rfl rfl)
theorem dX6_readsFactor_87 : decode cX6_readsFactor 87 = .ok (.ireturn, 1) := dk_172 (dk_at dksX6_readsFactor_3 15 rfl rfl)
abbrev cX6_opens : ByteArray := prog_20_method_24_code
def yX6_opens : MethodName := ⟨RX6, "opens", "(I)Z"⟩
def dkwX6_opens_2 : List UInt8 := [96, 181, 0, 155, 42, 42, 180, 0, 125, 4, 96, 181, 0, 125, 4, 172]
abbrev dktX6_opens_2 : List UInt8 := dkwX6_opens_2 ++ []
def dkwX6_opens_1 : List UInt8 := [4, 96, 181, 0, 152, 42, 180, 0, 32, 42, 180, 0, 155, 18, 151, 27, 104, 79, 42, 42, 180, 0, 155, 4]
abbrev dktX6_opens_1 : List UInt8 := dkwX6_opens_1 ++ dktX6_opens_2
def dkwX6_opens_0 : List UInt8 := [42, 180, 0, 152, 16, 6, 160, 0, 13, 42, 8, 42, 180, 0, 125, 182, 0, 138, 172, 42, 42, 180, 0, 152]
abbrev dktX6_opens_0 : List UInt8 := dkwX6_opens_0 ++ dktX6_opens_1
theorem dksX6_opens_0 : cX6_opens.data.toList.drop 0 = dktX6_opens_0 := by decide +kernel
theorem dksX6_opens_1 : cX6_opens.data.toList.drop 24 = dktX6_opens_1 := dk_seg dksX6_opens_0 24 rfl rfl
theorem dksX6_opens_2 : cX6_opens.data.toList.drop 48 = dktX6_opens_2 := dk_seg dksX6_opens_1 24 rfl rfl
theorem dX6_opens_0 : decode cX6_opens 0 = .ok (.aload_n 0, 1) := dk_42 (dk_at dksX6_opens_0 0 rfl rfl)
theorem dX6_opens_1 : decode cX6_opens 1 = .ok (.getfield 152, 3) := dk_180 0 152 (dk_at dksX6_opens_0 1 rfl rfl)
theorem dX6_opens_4 : decode cX6_opens 4 = .ok (.bipush 6, 2) := dk_16 6 (dk_at dksX6_opens_0 4 rfl rfl)
theorem dX6_opens_6 : decode cX6_opens 6 = .ok (.if_icmp .ne 13, 3) := dk_160 0 13 (dk_at dksX6_opens_0 6 rfl rfl)
theorem dX6_opens_9 : decode cX6_opens 9 = .ok (.aload_n 0, 1) := dk_42 (dk_at dksX6_opens_0 9 rfl rfl)
theorem dX6_opens_10 : decode cX6_opens 10 = .ok (.iconst 5, 1) := dk_8 (dk_at dksX6_opens_0 10 rfl rfl)
theorem dX6_opens_11 : decode cX6_opens 11 = .ok (.aload_n 0, 1) := dk_42 (dk_at dksX6_opens_0 11 rfl rfl)
theorem dX6_opens_12 : decode cX6_opens 12 = .ok (.getfield 125, 3) := dk_180 0 125 (dk_at dksX6_opens_0 12 rfl rfl)
theorem dX6_opens_15 : decode cX6_opens 15 = .ok (.invokevirtual 138, 3) := dk_182 0 138 (dk_at dksX6_opens_0 15 rfl rfl)
theorem dX6_opens_18 : decode cX6_opens 18 = .ok (.ireturn, 1) := dk_172 (dk_at dksX6_opens_0 18 rfl rfl)
theorem dX6_opens_19 : decode cX6_opens 19 = .ok (.aload_n 0, 1) := dk_42 (dk_at dksX6_opens_0 19 rfl rfl)
theorem dX6_opens_20 : decode cX6_opens 20 = .ok (.aload_n 0, 1) := dk_42 (dk_at dksX6_opens_0 20 rfl rfl)
theorem dX6_opens_21 : decode cX6_opens 21 = .ok (.getfield 152, 3) := dk_180 0 152 (dk_at dksX6_opens_0 21 rfl rfl)
theorem dX6_opens_24 : decode cX6_opens 24 = .ok (.iconst 1, 1) := dk_4 (dk_at dksX6_opens_1 0 rfl rfl)
theorem dX6_opens_25 : decode cX6_opens 25 = .ok (.iadd, 1) := dk_96 (dk_at dksX6_opens_1 1 rfl rfl)
theorem dX6_opens_26 : decode cX6_opens 26 = .ok (.putfield 152, 3) := dk_181 0 152 (dk_at dksX6_opens_1 2 rfl rfl)
theorem dX6_opens_29 : decode cX6_opens 29 = .ok (.aload_n 0, 1) := dk_42 (dk_at dksX6_opens_1 5 rfl rfl)
theorem dX6_opens_30 : decode cX6_opens 30 = .ok (.getfield 32, 3) := dk_180 0 32 (dk_at dksX6_opens_1 6 rfl rfl)
theorem dX6_opens_33 : decode cX6_opens 33 = .ok (.aload_n 0, 1) := dk_42 (dk_at dksX6_opens_1 9 rfl rfl)
theorem dX6_opens_34 : decode cX6_opens 34 = .ok (.getfield 155, 3) := dk_180 0 155 (dk_at dksX6_opens_1 10 rfl rfl)
theorem dX6_opens_37 : decode cX6_opens 37 = .ok (.ldc 151, 2) := dk_18 151 (dk_at dksX6_opens_1 13 rfl rfl)
theorem dX6_opens_39 : decode cX6_opens 39 = .ok (.iload_n 1, 1) := dk_27 (dk_at dksX6_opens_1 15 rfl rfl)
theorem dX6_opens_40 : decode cX6_opens 40 = .ok (.imul, 1) := dk_104 (dk_at dksX6_opens_1 16 rfl rfl)
theorem dX6_opens_41 : decode cX6_opens 41 = .ok (.iastore, 1) := dk_79 (dk_at dksX6_opens_1 17 rfl rfl)
theorem dX6_opens_42 : decode cX6_opens 42 = .ok (.aload_n 0, 1) := dk_42 (dk_at dksX6_opens_1 18 rfl rfl)
theorem dX6_opens_43 : decode cX6_opens 43 = .ok (.aload_n 0, 1) := dk_42 (dk_at dksX6_opens_1 19 rfl rfl)
theorem dX6_opens_44 : decode cX6_opens 44 = .ok (.getfield 155, 3) := dk_180 0 155 (dk_at dksX6_opens_1 20 rfl rfl)
theorem dX6_opens_47 : decode cX6_opens 47 = .ok (.iconst 1, 1) := dk_4 (dk_at dksX6_opens_1 23 rfl rfl)
theorem dX6_opens_48 : decode cX6_opens 48 = .ok (.iadd, 1) := dk_96 (dk_at dksX6_opens_2 0 rfl rfl)
theorem dX6_opens_49 : decode cX6_opens 49 = .ok (.putfield 155, 3) := dk_181 0 155 (dk_at dksX6_opens_2 1 rfl rfl)
theorem dX6_opens_52 : decode cX6_opens 52 = .ok (.aload_n 0, 1) := dk_42 (dk_at dksX6_opens_2 4 rfl rfl)
theorem dX6_opens_53 : decode cX6_opens 53 = .ok (.aload_n 0, 1) := dk_42 (dk_at dksX6_opens_2 5 rfl rfl)
theorem dX6_opens_54 : decode cX6_opens 54 = .ok (.getfield 125, 3) := dk_180 0 125 (dk_at dksX6_opens_2 6 rfl rfl)
theorem dX6_opens_57 : decode cX6_opens 57 = .ok (.iconst 1, 1) := dk_4 (dk_at dksX6_opens_2 9 rfl rfl)
theorem dX6_opens_58 : decode cX6_opens 58 = .ok (.iadd, 1) := dk_96 (dk_at dksX6_opens_2 10 rfl rfl)
theorem dX6_opens_59 : decode cX6_opens 59 = .ok (.putfield 125, 3) := dk_181 0 125 (dk_at dksX6_opens_2 11 rfl rfl)
theorem dX6_opens_62 : decode cX6_opens 62 = .ok (.iconst 1, 1) := dk_4 (dk_at dksX6_opens_2 14 rfl rfl)
theorem dX6_opens_63 : decode cX6_opens 63 = .ok (.ireturn, 1) := dk_172 (dk_at dksX6_opens_2 15 rfl rfl)
abbrev cX6_isDigit : ByteArray := prog_20_method_19_code
def yX6_isDigit : MethodName := ⟨RX6, "isDigit", "()Z"⟩
def dkwX6_isDigit_0 : List UInt8 := [42, 182, 0, 131, 16, 48, 161, 0, 16, 42, 182, 0, 131, 16, 57, 163, 0, 7, 4, 167, 0, 4, 3, 172]
abbrev dktX6_isDigit_0 : List UInt8 := dkwX6_isDigit_0 ++ []
theorem dksX6_isDigit_0 : cX6_isDigit.data.toList.drop 0 = dktX6_isDigit_0 := by decide +kernel
theorem dX6_isDigit_0 : decode cX6_isDigit 0 = .ok (.aload_n 0, 1) := dk_42 (dk_at dksX6_isDigit_0 0 rfl rfl)
theorem dX6_isDigit_1 : decode cX6_isDigit 1 = .ok (.invokevirtual 131, 3) := dk_182 0 131 (dk_at dksX6_isDigit_0 1 rfl rfl)
theorem dX6_isDigit_4 : decode cX6_isDigit 4 = .ok (.bipush 48, 2) := dk_16 48 (dk_at dksX6_isDigit_0 4 rfl rfl)
theorem dX6_isDigit_6 : decode cX6_isDigit 6 = .ok (.if_icmp .lt 16, 3) := dk_161 0 16 (dk_at dksX6_isDigit_0 6 rfl rfl)
theorem dX6_isDigit_9 : decode cX6_isDigit 9 = .ok (.aload_n 0, 1) := dk_42 (dk_at dksX6_isDigit_0 9 rfl rfl)
theorem dX6_isDigit_10 : decode cX6_isDigit 10 = .ok (.invokevirtual 131, 3) := dk_182 0 131 (dk_at dksX6_isDigit_0 10 rfl rfl)
theorem dX6_isDigit_13 : decode cX6_isDigit 13 = .ok (.bipush 57, 2) := dk_16 57 (dk_at dksX6_isDigit_0 13 rfl rfl)
theorem dX6_isDigit_15 : decode cX6_isDigit 15 = .ok (.if_icmp .gt 7, 3) := dk_163 0 7 (dk_at dksX6_isDigit_0 15 rfl rfl)
theorem dX6_isDigit_18 : decode cX6_isDigit 18 = .ok (.iconst 1, 1) := dk_4 (dk_at dksX6_isDigit_0 18 rfl rfl)
theorem dX6_isDigit_19 : decode cX6_isDigit 19 = .ok (.goto 4, 3) := dk_167 0 4 (dk_at dksX6_isDigit_0 19 rfl rfl)
theorem dX6_isDigit_22 : decode cX6_isDigit 22 = .ok (.iconst 0, 1) := dk_3 (dk_at dksX6_isDigit_0 22 rfl rfl)
theorem dX6_isDigit_23 : decode cX6_isDigit 23 = .ok (.ireturn, 1) := dk_172 (dk_at dksX6_isDigit_0 23 rfl rfl)
abbrev cX6_readsNumber : ByteArray := prog_20_method_22_code
def yX6_readsNumber : MethodName := ⟨RX6, "readsNumber", "()Z"⟩
def dkwX6_readsNumber_3 : List UInt8 := [172]
abbrev dktX6_readsNumber_3 : List UInt8 := dkwX6_readsNumber_3 ++ []
def dkwX6_readsNumber_2 : List UInt8 := [182, 0, 131, 96, 16, 48, 100, 181, 0, 141, 42, 42, 180, 0, 125, 4, 96, 181, 0, 125, 167, 255, 200, 4]
abbrev dktX6_readsNumber_2 : List UInt8 := dkwX6_readsNumber_2 ++ dktX6_readsNumber_3
def dkwX6_readsNumber_1 : List UInt8 := [160, 0, 13, 42, 5, 42, 180, 0, 125, 182, 0, 138, 172, 42, 16, 10, 42, 180, 0, 141, 104, 42]
abbrev dktX6_readsNumber_1 : List UInt8 := dkwX6_readsNumber_1 ++ dktX6_readsNumber_2
def dkwX6_readsNumber_0 : List UInt8 := [42, 180, 0, 125, 60, 42, 3, 181, 0, 141, 42, 182, 0, 144, 153, 0, 55, 42, 180, 0, 125, 27, 8, 96]
abbrev dktX6_readsNumber_0 : List UInt8 := dkwX6_readsNumber_0 ++ dktX6_readsNumber_1
theorem dksX6_readsNumber_0 : cX6_readsNumber.data.toList.drop 0 = dktX6_readsNumber_0 := by decide +kernel
theorem dksX6_readsNumber_1 : cX6_readsNumber.data.toList.drop 24 = dktX6_readsNumber_1 := dk_seg dksX6_readsNumber_0 24 rfl rfl
theorem dksX6_readsNumber_2 : cX6_readsNumber.data.toList.drop 46 = dktX6_readsNumber_2 := dk_seg dksX6_readsNumber_1 22 rfl rfl
theorem dksX6_readsNumber_3 : cX6_readsNumber.data.toList.drop 70 = dktX6_readsNumber_3 := dk_seg dksX6_readsNumber_2 24 rfl rfl
theorem dX6_readsNumber_0 : decode cX6_readsNumber 0 = .ok (.aload_n 0, 1) := dk_42 (dk_at dksX6_readsNumber_0 0 rfl rfl)
theorem dX6_readsNumber_1 : decode cX6_readsNumber 1 = .ok (.getfield 125, 3) := dk_180 0 125 (dk_at dksX6_readsNumber_0 1 rfl rfl)
theorem dX6_readsNumber_4 : decode cX6_readsNumber 4 = .ok (.istore_n 1, 1) := dk_60 (dk_at dksX6_readsNumber_0 4 rfl rfl)
theorem dX6_readsNumber_5 : decode cX6_readsNumber 5 = .ok (.aload_n 0, 1) := dk_42 (dk_at dksX6_readsNumber_0 5 rfl rfl)
theorem dX6_readsNumber_6 : decode cX6_readsNumber 6 = .ok (.iconst 0, 1) := dk_3 (dk_at dksX6_readsNumber_0 6 rfl rfl)
theorem dX6_readsNumber_7 : decode cX6_readsNumber 7 = .ok (.putfield 141, 3) := dk_181 0 141 (dk_at dksX6_readsNumber_0 7 rfl rfl)
theorem dX6_readsNumber_10 : decode cX6_readsNumber 10 = .ok (.aload_n 0, 1) := dk_42 (dk_at dksX6_readsNumber_0 10 rfl rfl)
theorem dX6_readsNumber_11 : decode cX6_readsNumber 11 = .ok (.invokevirtual 144, 3) := dk_182 0 144 (dk_at dksX6_readsNumber_0 11 rfl rfl)
theorem dX6_readsNumber_14 : decode cX6_readsNumber 14 = .ok (.ifCond .eq 55, 3) := dk_153 0 55 (dk_at dksX6_readsNumber_0 14 rfl rfl)
theorem dX6_readsNumber_17 : decode cX6_readsNumber 17 = .ok (.aload_n 0, 1) := dk_42 (dk_at dksX6_readsNumber_0 17 rfl rfl)
theorem dX6_readsNumber_18 : decode cX6_readsNumber 18 = .ok (.getfield 125, 3) := dk_180 0 125 (dk_at dksX6_readsNumber_0 18 rfl rfl)
theorem dX6_readsNumber_21 : decode cX6_readsNumber 21 = .ok (.iload_n 1, 1) := dk_27 (dk_at dksX6_readsNumber_0 21 rfl rfl)
theorem dX6_readsNumber_22 : decode cX6_readsNumber 22 = .ok (.iconst 5, 1) := dk_8 (dk_at dksX6_readsNumber_0 22 rfl rfl)
theorem dX6_readsNumber_23 : decode cX6_readsNumber 23 = .ok (.iadd, 1) := dk_96 (dk_at dksX6_readsNumber_0 23 rfl rfl)
theorem dX6_readsNumber_24 : decode cX6_readsNumber 24 = .ok (.if_icmp .ne 13, 3) := dk_160 0 13 (dk_at dksX6_readsNumber_1 0 rfl rfl)
theorem dX6_readsNumber_27 : decode cX6_readsNumber 27 = .ok (.aload_n 0, 1) := dk_42 (dk_at dksX6_readsNumber_1 3 rfl rfl)
theorem dX6_readsNumber_28 : decode cX6_readsNumber 28 = .ok (.iconst 2, 1) := dk_5 (dk_at dksX6_readsNumber_1 4 rfl rfl)
theorem dX6_readsNumber_29 : decode cX6_readsNumber 29 = .ok (.aload_n 0, 1) := dk_42 (dk_at dksX6_readsNumber_1 5 rfl rfl)
theorem dX6_readsNumber_30 : decode cX6_readsNumber 30 = .ok (.getfield 125, 3) := dk_180 0 125 (dk_at dksX6_readsNumber_1 6 rfl rfl)
theorem dX6_readsNumber_33 : decode cX6_readsNumber 33 = .ok (.invokevirtual 138, 3) := dk_182 0 138 (dk_at dksX6_readsNumber_1 9 rfl rfl)
theorem dX6_readsNumber_36 : decode cX6_readsNumber 36 = .ok (.ireturn, 1) := dk_172 (dk_at dksX6_readsNumber_1 12 rfl rfl)
theorem dX6_readsNumber_37 : decode cX6_readsNumber 37 = .ok (.aload_n 0, 1) := dk_42 (dk_at dksX6_readsNumber_1 13 rfl rfl)
theorem dX6_readsNumber_38 : decode cX6_readsNumber 38 = .ok (.bipush 10, 2) := dk_16 10 (dk_at dksX6_readsNumber_1 14 rfl rfl)
theorem dX6_readsNumber_40 : decode cX6_readsNumber 40 = .ok (.aload_n 0, 1) := dk_42 (dk_at dksX6_readsNumber_1 16 rfl rfl)
theorem dX6_readsNumber_41 : decode cX6_readsNumber 41 = .ok (.getfield 141, 3) := dk_180 0 141 (dk_at dksX6_readsNumber_1 17 rfl rfl)
theorem dX6_readsNumber_44 : decode cX6_readsNumber 44 = .ok (.imul, 1) := dk_104 (dk_at dksX6_readsNumber_1 20 rfl rfl)
theorem dX6_readsNumber_45 : decode cX6_readsNumber 45 = .ok (.aload_n 0, 1) := dk_42 (dk_at dksX6_readsNumber_1 21 rfl rfl)
theorem dX6_readsNumber_46 : decode cX6_readsNumber 46 = .ok (.invokevirtual 131, 3) := dk_182 0 131 (dk_at dksX6_readsNumber_2 0 rfl rfl)
theorem dX6_readsNumber_49 : decode cX6_readsNumber 49 = .ok (.iadd, 1) := dk_96 (dk_at dksX6_readsNumber_2 3 rfl rfl)
theorem dX6_readsNumber_50 : decode cX6_readsNumber 50 = .ok (.bipush 48, 2) := dk_16 48 (dk_at dksX6_readsNumber_2 4 rfl rfl)
theorem dX6_readsNumber_52 : decode cX6_readsNumber 52 = .ok (.isub, 1) := dk_100 (dk_at dksX6_readsNumber_2 6 rfl rfl)
theorem dX6_readsNumber_53 : decode cX6_readsNumber 53 = .ok (.putfield 141, 3) := dk_181 0 141 (dk_at dksX6_readsNumber_2 7 rfl rfl)
theorem dX6_readsNumber_56 : decode cX6_readsNumber 56 = .ok (.aload_n 0, 1) := dk_42 (dk_at dksX6_readsNumber_2 10 rfl rfl)
theorem dX6_readsNumber_57 : decode cX6_readsNumber 57 = .ok (.aload_n 0, 1) := dk_42 (dk_at dksX6_readsNumber_2 11 rfl rfl)
theorem dX6_readsNumber_58 : decode cX6_readsNumber 58 = .ok (.getfield 125, 3) := dk_180 0 125 (dk_at dksX6_readsNumber_2 12 rfl rfl)
theorem dX6_readsNumber_61 : decode cX6_readsNumber 61 = .ok (.iconst 1, 1) := dk_4 (dk_at dksX6_readsNumber_2 15 rfl rfl)
theorem dX6_readsNumber_62 : decode cX6_readsNumber 62 = .ok (.iadd, 1) := dk_96 (dk_at dksX6_readsNumber_2 16 rfl rfl)
theorem dX6_readsNumber_63 : decode cX6_readsNumber 63 = .ok (.putfield 125, 3) := dk_181 0 125 (dk_at dksX6_readsNumber_2 17 rfl rfl)
theorem dX6_readsNumber_66 : decode cX6_readsNumber 66 = .ok (.goto (-56), 3) := dk_167 255 200 (dk_at dksX6_readsNumber_2 20 rfl rfl)
theorem dX6_readsNumber_69 : decode cX6_readsNumber 69 = .ok (.iconst 1, 1) := dk_4 (dk_at dksX6_readsNumber_2 23 rfl rfl)
theorem dX6_readsNumber_70 : decode cX6_readsNumber 70 = .ok (.ireturn, 1) := dk_172 (dk_at dksX6_readsNumber_3 0 rfl rfl)
abbrev cX6_notes : ByteArray := prog_20_method_23_code
def yX6_notes : MethodName := ⟨RX6, "notes", "(II)V"⟩
def dkwX6_notes_1 : List UInt8 := [181, 0, 148, 177]
abbrev dktX6_notes_1 : List UInt8 := dkwX6_notes_1 ++ []
def dkwX6_notes_0 : List UInt8 := [42, 180, 0, 29, 42, 180, 0, 148, 18, 151, 27, 104, 28, 96, 79, 42, 42, 180, 0, 148, 4, 96]
abbrev dktX6_notes_0 : List UInt8 := dkwX6_notes_0 ++ dktX6_notes_1
theorem dksX6_notes_0 : cX6_notes.data.toList.drop 0 = dktX6_notes_0 := by decide +kernel
theorem dksX6_notes_1 : cX6_notes.data.toList.drop 22 = dktX6_notes_1 := dk_seg dksX6_notes_0 22 rfl rfl
theorem dX6_notes_0 : decode cX6_notes 0 = .ok (.aload_n 0, 1) := dk_42 (dk_at dksX6_notes_0 0 rfl rfl)
theorem dX6_notes_1 : decode cX6_notes 1 = .ok (.getfield 29, 3) := dk_180 0 29 (dk_at dksX6_notes_0 1 rfl rfl)
theorem dX6_notes_4 : decode cX6_notes 4 = .ok (.aload_n 0, 1) := dk_42 (dk_at dksX6_notes_0 4 rfl rfl)
theorem dX6_notes_5 : decode cX6_notes 5 = .ok (.getfield 148, 3) := dk_180 0 148 (dk_at dksX6_notes_0 5 rfl rfl)
theorem dX6_notes_8 : decode cX6_notes 8 = .ok (.ldc 151, 2) := dk_18 151 (dk_at dksX6_notes_0 8 rfl rfl)
theorem dX6_notes_10 : decode cX6_notes 10 = .ok (.iload_n 1, 1) := dk_27 (dk_at dksX6_notes_0 10 rfl rfl)
theorem dX6_notes_11 : decode cX6_notes 11 = .ok (.imul, 1) := dk_104 (dk_at dksX6_notes_0 11 rfl rfl)
theorem dX6_notes_12 : decode cX6_notes 12 = .ok (.iload_n 2, 1) := dk_28 (dk_at dksX6_notes_0 12 rfl rfl)
theorem dX6_notes_13 : decode cX6_notes 13 = .ok (.iadd, 1) := dk_96 (dk_at dksX6_notes_0 13 rfl rfl)
theorem dX6_notes_14 : decode cX6_notes 14 = .ok (.iastore, 1) := dk_79 (dk_at dksX6_notes_0 14 rfl rfl)
theorem dX6_notes_15 : decode cX6_notes 15 = .ok (.aload_n 0, 1) := dk_42 (dk_at dksX6_notes_0 15 rfl rfl)
theorem dX6_notes_16 : decode cX6_notes 16 = .ok (.aload_n 0, 1) := dk_42 (dk_at dksX6_notes_0 16 rfl rfl)
theorem dX6_notes_17 : decode cX6_notes 17 = .ok (.getfield 148, 3) := dk_180 0 148 (dk_at dksX6_notes_0 17 rfl rfl)
theorem dX6_notes_20 : decode cX6_notes 20 = .ok (.iconst 1, 1) := dk_4 (dk_at dksX6_notes_0 20 rfl rfl)
theorem dX6_notes_21 : decode cX6_notes 21 = .ok (.iadd, 1) := dk_96 (dk_at dksX6_notes_0 21 rfl rfl)
theorem dX6_notes_22 : decode cX6_notes 22 = .ok (.putfield 148, 3) := dk_181 0 148 (dk_at dksX6_notes_1 0 rfl rfl)
theorem dX6_notes_25 : decode cX6_notes 25 = .ok (.return_, 1) := dk_177 (dk_at dksX6_notes_1 3 rfl rfl)
abbrev cX6_factOf : ByteArray := prog_20_method_26_code
def yX6_factOf : MethodName := ⟨RX6, "factOf", "(I)I"⟩
def dkwX6_factOf_2 : List UInt8 := [3, 172, 4, 172, 5, 172, 6, 172, 7, 172, 8, 172, 16, 6, 172, 16, 7, 172, 16, 8, 172, 2, 172]
abbrev dktX6_factOf_2 : List UInt8 := dkwX6_factOf_2 ++ []
def dkwX6_factOf_1 : List UInt8 := [170, 0, 0, 0, 0, 0, 116, 0, 0, 0, 100, 0, 0, 0, 119, 0, 0, 0, 105, 0, 0, 0, 116, 0, 0, 0, 116, 0, 0, 0, 107, 0, 0, 0, 116, 0, 0, 0, 103, 0, 0, 0, 116, 0, 0, 0, 116, 0, 0, 0, 116, 0, 0, 0, 97, 0, 0, 0, 99, 0, 0, 0, 116, 0, 0, 0, 95, 0, 0, 0, 116, 0, 0, 0, 116, 0, 0, 0, 116, 0, 0, 0, 110, 0, 0, 0, 116, 0, 0, 0, 101, 0, 0, 0, 113]
abbrev dktX6_factOf_1 : List UInt8 := dkwX6_factOf_1 ++ dktX6_factOf_2
def dkwX6_factOf_0 : List UInt8 := [26]
abbrev dktX6_factOf_0 : List UInt8 := dkwX6_factOf_0 ++ dktX6_factOf_1
theorem dksX6_factOf_0 : cX6_factOf.data.toList.drop 0 = dktX6_factOf_0 := by decide +kernel
theorem dksX6_factOf_1 : cX6_factOf.data.toList.drop 1 = dktX6_factOf_1 := dk_seg dksX6_factOf_0 1 rfl rfl
theorem dksX6_factOf_2 : cX6_factOf.data.toList.drop 96 = dktX6_factOf_2 := dk_seg dksX6_factOf_1 95 rfl rfl
theorem dX6_factOf_0 : decode cX6_factOf 0 = .ok (.iload_n 0, 1) := dk_26 (dk_at dksX6_factOf_0 0 rfl rfl)
theorem dX6_factOf_1 : decode cX6_factOf 1 = .ok (.tableswitch 116 100 119 #[105, 116, 116, 107, 116, 103, 116, 116, 116, 97, 99, 116, 95, 116, 116, 116, 110, 116, 101, 113], 95) := by decide +kernel
theorem dX6_factOf_96 : decode cX6_factOf 96 = .ok (.iconst 0, 1) := dk_3 (dk_at dksX6_factOf_2 0 rfl rfl)
theorem dX6_factOf_97 : decode cX6_factOf 97 = .ok (.ireturn, 1) := dk_172 (dk_at dksX6_factOf_2 1 rfl rfl)
theorem dX6_factOf_98 : decode cX6_factOf 98 = .ok (.iconst 1, 1) := dk_4 (dk_at dksX6_factOf_2 2 rfl rfl)
theorem dX6_factOf_99 : decode cX6_factOf 99 = .ok (.ireturn, 1) := dk_172 (dk_at dksX6_factOf_2 3 rfl rfl)
theorem dX6_factOf_100 : decode cX6_factOf 100 = .ok (.iconst 2, 1) := dk_5 (dk_at dksX6_factOf_2 4 rfl rfl)
theorem dX6_factOf_101 : decode cX6_factOf 101 = .ok (.ireturn, 1) := dk_172 (dk_at dksX6_factOf_2 5 rfl rfl)
theorem dX6_factOf_102 : decode cX6_factOf 102 = .ok (.iconst 3, 1) := dk_6 (dk_at dksX6_factOf_2 6 rfl rfl)
theorem dX6_factOf_103 : decode cX6_factOf 103 = .ok (.ireturn, 1) := dk_172 (dk_at dksX6_factOf_2 7 rfl rfl)
theorem dX6_factOf_104 : decode cX6_factOf 104 = .ok (.iconst 4, 1) := dk_7 (dk_at dksX6_factOf_2 8 rfl rfl)
theorem dX6_factOf_105 : decode cX6_factOf 105 = .ok (.ireturn, 1) := dk_172 (dk_at dksX6_factOf_2 9 rfl rfl)
theorem dX6_factOf_106 : decode cX6_factOf 106 = .ok (.iconst 5, 1) := dk_8 (dk_at dksX6_factOf_2 10 rfl rfl)
theorem dX6_factOf_107 : decode cX6_factOf 107 = .ok (.ireturn, 1) := dk_172 (dk_at dksX6_factOf_2 11 rfl rfl)
theorem dX6_factOf_108 : decode cX6_factOf 108 = .ok (.bipush 6, 2) := dk_16 6 (dk_at dksX6_factOf_2 12 rfl rfl)
theorem dX6_factOf_110 : decode cX6_factOf 110 = .ok (.ireturn, 1) := dk_172 (dk_at dksX6_factOf_2 14 rfl rfl)
theorem dX6_factOf_111 : decode cX6_factOf 111 = .ok (.bipush 7, 2) := dk_16 7 (dk_at dksX6_factOf_2 15 rfl rfl)
theorem dX6_factOf_113 : decode cX6_factOf 113 = .ok (.ireturn, 1) := dk_172 (dk_at dksX6_factOf_2 17 rfl rfl)
theorem dX6_factOf_114 : decode cX6_factOf 114 = .ok (.bipush 8, 2) := dk_16 8 (dk_at dksX6_factOf_2 18 rfl rfl)
theorem dX6_factOf_116 : decode cX6_factOf 116 = .ok (.ireturn, 1) := dk_172 (dk_at dksX6_factOf_2 20 rfl rfl)
theorem dX6_factOf_117 : decode cX6_factOf 117 = .ok (.iconst (-1), 1) := dk_2 (dk_at dksX6_factOf_2 21 rfl rfl)
theorem dX6_factOf_118 : decode cX6_factOf 118 = .ok (.ireturn, 1) := dk_172 (dk_at dksX6_factOf_2 22 rfl rfl)
abbrev cX6_sumSign : ByteArray := prog_20_method_27_code
def yX6_sumSign : MethodName := ⟨RX6, "sumSign", "(I)I"⟩
def dkwX6_sumSign_2 : List UInt8 := [16, 6, 167, 0, 4, 2, 172]
abbrev dktX6_sumSign_2 : List UInt8 := dkwX6_sumSign_2 ++ []
def dkwX6_sumSign_1 : List UInt8 := [160, 0, 7, 7, 167, 0, 25, 26, 16, 47, 160, 0, 7, 8, 167, 0, 15, 26, 16, 37, 160, 0, 8]
abbrev dktX6_sumSign_1 : List UInt8 := dkwX6_sumSign_1 ++ dktX6_sumSign_2
def dkwX6_sumSign_0 : List UInt8 := [26, 16, 43, 160, 0, 7, 5, 167, 0, 45, 26, 16, 45, 160, 0, 7, 6, 167, 0, 35, 26, 16, 42]
abbrev dktX6_sumSign_0 : List UInt8 := dkwX6_sumSign_0 ++ dktX6_sumSign_1
theorem dksX6_sumSign_0 : cX6_sumSign.data.toList.drop 0 = dktX6_sumSign_0 := by decide +kernel
theorem dksX6_sumSign_1 : cX6_sumSign.data.toList.drop 23 = dktX6_sumSign_1 := dk_seg dksX6_sumSign_0 23 rfl rfl
theorem dksX6_sumSign_2 : cX6_sumSign.data.toList.drop 46 = dktX6_sumSign_2 := dk_seg dksX6_sumSign_1 23 rfl rfl
theorem dX6_sumSign_0 : decode cX6_sumSign 0 = .ok (.iload_n 0, 1) := dk_26 (dk_at dksX6_sumSign_0 0 rfl rfl)
theorem dX6_sumSign_1 : decode cX6_sumSign 1 = .ok (.bipush 43, 2) := dk_16 43 (dk_at dksX6_sumSign_0 1 rfl rfl)
theorem dX6_sumSign_3 : decode cX6_sumSign 3 = .ok (.if_icmp .ne 7, 3) := dk_160 0 7 (dk_at dksX6_sumSign_0 3 rfl rfl)
theorem dX6_sumSign_6 : decode cX6_sumSign 6 = .ok (.iconst 2, 1) := dk_5 (dk_at dksX6_sumSign_0 6 rfl rfl)
theorem dX6_sumSign_7 : decode cX6_sumSign 7 = .ok (.goto 45, 3) := dk_167 0 45 (dk_at dksX6_sumSign_0 7 rfl rfl)
theorem dX6_sumSign_10 : decode cX6_sumSign 10 = .ok (.iload_n 0, 1) := dk_26 (dk_at dksX6_sumSign_0 10 rfl rfl)
theorem dX6_sumSign_11 : decode cX6_sumSign 11 = .ok (.bipush 45, 2) := dk_16 45 (dk_at dksX6_sumSign_0 11 rfl rfl)
theorem dX6_sumSign_13 : decode cX6_sumSign 13 = .ok (.if_icmp .ne 7, 3) := dk_160 0 7 (dk_at dksX6_sumSign_0 13 rfl rfl)
theorem dX6_sumSign_16 : decode cX6_sumSign 16 = .ok (.iconst 3, 1) := dk_6 (dk_at dksX6_sumSign_0 16 rfl rfl)
theorem dX6_sumSign_17 : decode cX6_sumSign 17 = .ok (.goto 35, 3) := dk_167 0 35 (dk_at dksX6_sumSign_0 17 rfl rfl)
theorem dX6_sumSign_20 : decode cX6_sumSign 20 = .ok (.iload_n 0, 1) := dk_26 (dk_at dksX6_sumSign_0 20 rfl rfl)
theorem dX6_sumSign_21 : decode cX6_sumSign 21 = .ok (.bipush 42, 2) := dk_16 42 (dk_at dksX6_sumSign_0 21 rfl rfl)
theorem dX6_sumSign_23 : decode cX6_sumSign 23 = .ok (.if_icmp .ne 7, 3) := dk_160 0 7 (dk_at dksX6_sumSign_1 0 rfl rfl)
theorem dX6_sumSign_26 : decode cX6_sumSign 26 = .ok (.iconst 4, 1) := dk_7 (dk_at dksX6_sumSign_1 3 rfl rfl)
theorem dX6_sumSign_27 : decode cX6_sumSign 27 = .ok (.goto 25, 3) := dk_167 0 25 (dk_at dksX6_sumSign_1 4 rfl rfl)
theorem dX6_sumSign_30 : decode cX6_sumSign 30 = .ok (.iload_n 0, 1) := dk_26 (dk_at dksX6_sumSign_1 7 rfl rfl)
theorem dX6_sumSign_31 : decode cX6_sumSign 31 = .ok (.bipush 47, 2) := dk_16 47 (dk_at dksX6_sumSign_1 8 rfl rfl)
theorem dX6_sumSign_33 : decode cX6_sumSign 33 = .ok (.if_icmp .ne 7, 3) := dk_160 0 7 (dk_at dksX6_sumSign_1 10 rfl rfl)
theorem dX6_sumSign_36 : decode cX6_sumSign 36 = .ok (.iconst 5, 1) := dk_8 (dk_at dksX6_sumSign_1 13 rfl rfl)
theorem dX6_sumSign_37 : decode cX6_sumSign 37 = .ok (.goto 15, 3) := dk_167 0 15 (dk_at dksX6_sumSign_1 14 rfl rfl)
theorem dX6_sumSign_40 : decode cX6_sumSign 40 = .ok (.iload_n 0, 1) := dk_26 (dk_at dksX6_sumSign_1 17 rfl rfl)
theorem dX6_sumSign_41 : decode cX6_sumSign 41 = .ok (.bipush 37, 2) := dk_16 37 (dk_at dksX6_sumSign_1 18 rfl rfl)
theorem dX6_sumSign_43 : decode cX6_sumSign 43 = .ok (.if_icmp .ne 8, 3) := dk_160 0 8 (dk_at dksX6_sumSign_1 20 rfl rfl)
theorem dX6_sumSign_46 : decode cX6_sumSign 46 = .ok (.bipush 6, 2) := dk_16 6 (dk_at dksX6_sumSign_2 0 rfl rfl)
theorem dX6_sumSign_48 : decode cX6_sumSign 48 = .ok (.goto 4, 3) := dk_167 0 4 (dk_at dksX6_sumSign_2 2 rfl rfl)
theorem dX6_sumSign_51 : decode cX6_sumSign 51 = .ok (.iconst (-1), 1) := dk_2 (dk_at dksX6_sumSign_2 5 rfl rfl)
theorem dX6_sumSign_52 : decode cX6_sumSign 52 = .ok (.ireturn, 1) := dk_172 (dk_at dksX6_sumSign_2 6 rfl rfl)
abbrev cX6_closesSums : ByteArray := prog_20_method_28_code
def yX6_closesSums : MethodName := ⟨RX6, "closesSums", "(Z)V"⟩
def dkwX6_closesSums_2 : List UInt8 := [42, 42, 180, 0, 155, 4, 100, 181, 0, 155, 167, 255, 200, 177]
abbrev dktX6_closesSums_2 : List UInt8 := dkwX6_closesSums_2 ++ []
def dkwX6_closesSums_1 : List UInt8 := [182, 0, 158, 5, 159, 0, 11, 42, 182, 0, 158, 6, 160, 0, 25, 42, 42, 182, 0, 158, 3, 182, 0, 161]
abbrev dktX6_closesSums_1 : List UInt8 := dkwX6_closesSums_1 ++ dktX6_closesSums_2
def dkwX6_closesSums_0 : List UInt8 := [42, 182, 0, 158, 7, 161, 0, 12, 42, 182, 0, 158, 16, 6, 164, 0, 23, 27, 153, 0, 41, 42]
abbrev dktX6_closesSums_0 : List UInt8 := dkwX6_closesSums_0 ++ dktX6_closesSums_1
theorem dksX6_closesSums_0 : cX6_closesSums.data.toList.drop 0 = dktX6_closesSums_0 := by decide +kernel
theorem dksX6_closesSums_1 : cX6_closesSums.data.toList.drop 22 = dktX6_closesSums_1 := dk_seg dksX6_closesSums_0 22 rfl rfl
theorem dksX6_closesSums_2 : cX6_closesSums.data.toList.drop 46 = dktX6_closesSums_2 := dk_seg dksX6_closesSums_1 24 rfl rfl
theorem dX6_closesSums_0 : decode cX6_closesSums 0 = .ok (.aload_n 0, 1) := dk_42 (dk_at dksX6_closesSums_0 0 rfl rfl)
theorem dX6_closesSums_1 : decode cX6_closesSums 1 = .ok (.invokevirtual 158, 3) := dk_182 0 158 (dk_at dksX6_closesSums_0 1 rfl rfl)
theorem dX6_closesSums_4 : decode cX6_closesSums 4 = .ok (.iconst 4, 1) := dk_7 (dk_at dksX6_closesSums_0 4 rfl rfl)
theorem dX6_closesSums_5 : decode cX6_closesSums 5 = .ok (.if_icmp .lt 12, 3) := dk_161 0 12 (dk_at dksX6_closesSums_0 5 rfl rfl)
theorem dX6_closesSums_8 : decode cX6_closesSums 8 = .ok (.aload_n 0, 1) := dk_42 (dk_at dksX6_closesSums_0 8 rfl rfl)
theorem dX6_closesSums_9 : decode cX6_closesSums 9 = .ok (.invokevirtual 158, 3) := dk_182 0 158 (dk_at dksX6_closesSums_0 9 rfl rfl)
theorem dX6_closesSums_12 : decode cX6_closesSums 12 = .ok (.bipush 6, 2) := dk_16 6 (dk_at dksX6_closesSums_0 12 rfl rfl)
theorem dX6_closesSums_14 : decode cX6_closesSums 14 = .ok (.if_icmp .le 23, 3) := dk_164 0 23 (dk_at dksX6_closesSums_0 14 rfl rfl)
theorem dX6_closesSums_17 : decode cX6_closesSums 17 = .ok (.iload_n 1, 1) := dk_27 (dk_at dksX6_closesSums_0 17 rfl rfl)
theorem dX6_closesSums_18 : decode cX6_closesSums 18 = .ok (.ifCond .eq 41, 3) := dk_153 0 41 (dk_at dksX6_closesSums_0 18 rfl rfl)
theorem dX6_closesSums_21 : decode cX6_closesSums 21 = .ok (.aload_n 0, 1) := dk_42 (dk_at dksX6_closesSums_0 21 rfl rfl)
theorem dX6_closesSums_22 : decode cX6_closesSums 22 = .ok (.invokevirtual 158, 3) := dk_182 0 158 (dk_at dksX6_closesSums_1 0 rfl rfl)
theorem dX6_closesSums_25 : decode cX6_closesSums 25 = .ok (.iconst 2, 1) := dk_5 (dk_at dksX6_closesSums_1 3 rfl rfl)
theorem dX6_closesSums_26 : decode cX6_closesSums 26 = .ok (.if_icmp .eq 11, 3) := dk_159 0 11 (dk_at dksX6_closesSums_1 4 rfl rfl)
theorem dX6_closesSums_29 : decode cX6_closesSums 29 = .ok (.aload_n 0, 1) := dk_42 (dk_at dksX6_closesSums_1 7 rfl rfl)
theorem dX6_closesSums_30 : decode cX6_closesSums 30 = .ok (.invokevirtual 158, 3) := dk_182 0 158 (dk_at dksX6_closesSums_1 8 rfl rfl)
theorem dX6_closesSums_33 : decode cX6_closesSums 33 = .ok (.iconst 3, 1) := dk_6 (dk_at dksX6_closesSums_1 11 rfl rfl)
theorem dX6_closesSums_34 : decode cX6_closesSums 34 = .ok (.if_icmp .ne 25, 3) := dk_160 0 25 (dk_at dksX6_closesSums_1 12 rfl rfl)
theorem dX6_closesSums_37 : decode cX6_closesSums 37 = .ok (.aload_n 0, 1) := dk_42 (dk_at dksX6_closesSums_1 15 rfl rfl)
theorem dX6_closesSums_38 : decode cX6_closesSums 38 = .ok (.aload_n 0, 1) := dk_42 (dk_at dksX6_closesSums_1 16 rfl rfl)
theorem dX6_closesSums_39 : decode cX6_closesSums 39 = .ok (.invokevirtual 158, 3) := dk_182 0 158 (dk_at dksX6_closesSums_1 17 rfl rfl)
theorem dX6_closesSums_42 : decode cX6_closesSums 42 = .ok (.iconst 0, 1) := dk_3 (dk_at dksX6_closesSums_1 20 rfl rfl)
theorem dX6_closesSums_43 : decode cX6_closesSums 43 = .ok (.invokevirtual 161, 3) := dk_182 0 161 (dk_at dksX6_closesSums_1 21 rfl rfl)
theorem dX6_closesSums_46 : decode cX6_closesSums 46 = .ok (.aload_n 0, 1) := dk_42 (dk_at dksX6_closesSums_2 0 rfl rfl)
theorem dX6_closesSums_47 : decode cX6_closesSums 47 = .ok (.aload_n 0, 1) := dk_42 (dk_at dksX6_closesSums_2 1 rfl rfl)
theorem dX6_closesSums_48 : decode cX6_closesSums 48 = .ok (.getfield 155, 3) := dk_180 0 155 (dk_at dksX6_closesSums_2 2 rfl rfl)
theorem dX6_closesSums_51 : decode cX6_closesSums 51 = .ok (.iconst 1, 1) := dk_4 (dk_at dksX6_closesSums_2 5 rfl rfl)
theorem dX6_closesSums_52 : decode cX6_closesSums 52 = .ok (.isub, 1) := dk_100 (dk_at dksX6_closesSums_2 6 rfl rfl)
theorem dX6_closesSums_53 : decode cX6_closesSums 53 = .ok (.putfield 155, 3) := dk_181 0 155 (dk_at dksX6_closesSums_2 7 rfl rfl)
theorem dX6_closesSums_56 : decode cX6_closesSums 56 = .ok (.goto (-56), 3) := dk_167 255 200 (dk_at dksX6_closesSums_2 10 rfl rfl)
theorem dX6_closesSums_59 : decode cX6_closesSums 59 = .ok (.return_, 1) := dk_177 (dk_at dksX6_closesSums_2 13 rfl rfl)
abbrev cX6_waitTop : ByteArray := prog_20_method_25_code
def yX6_waitTop : MethodName := ⟨RX6, "waitTop", "()I"⟩
def dkwX6_waitTop_1 : List UInt8 := [108, 172]
abbrev dktX6_waitTop_1 : List UInt8 := dkwX6_waitTop_1 ++ []
def dkwX6_waitTop_0 : List UInt8 := [42, 180, 0, 155, 154, 0, 7, 2, 167, 0, 17, 42, 180, 0, 32, 42, 180, 0, 155, 4, 100, 46, 18, 151]
abbrev dktX6_waitTop_0 : List UInt8 := dkwX6_waitTop_0 ++ dktX6_waitTop_1
theorem dksX6_waitTop_0 : cX6_waitTop.data.toList.drop 0 = dktX6_waitTop_0 := by decide +kernel
theorem dksX6_waitTop_1 : cX6_waitTop.data.toList.drop 24 = dktX6_waitTop_1 := dk_seg dksX6_waitTop_0 24 rfl rfl
theorem dX6_waitTop_0 : decode cX6_waitTop 0 = .ok (.aload_n 0, 1) := dk_42 (dk_at dksX6_waitTop_0 0 rfl rfl)
theorem dX6_waitTop_1 : decode cX6_waitTop 1 = .ok (.getfield 155, 3) := dk_180 0 155 (dk_at dksX6_waitTop_0 1 rfl rfl)
theorem dX6_waitTop_4 : decode cX6_waitTop 4 = .ok (.ifCond .ne 7, 3) := dk_154 0 7 (dk_at dksX6_waitTop_0 4 rfl rfl)
theorem dX6_waitTop_7 : decode cX6_waitTop 7 = .ok (.iconst (-1), 1) := dk_2 (dk_at dksX6_waitTop_0 7 rfl rfl)
theorem dX6_waitTop_8 : decode cX6_waitTop 8 = .ok (.goto 17, 3) := dk_167 0 17 (dk_at dksX6_waitTop_0 8 rfl rfl)
theorem dX6_waitTop_11 : decode cX6_waitTop 11 = .ok (.aload_n 0, 1) := dk_42 (dk_at dksX6_waitTop_0 11 rfl rfl)
theorem dX6_waitTop_12 : decode cX6_waitTop 12 = .ok (.getfield 32, 3) := dk_180 0 32 (dk_at dksX6_waitTop_0 12 rfl rfl)
theorem dX6_waitTop_15 : decode cX6_waitTop 15 = .ok (.aload_n 0, 1) := dk_42 (dk_at dksX6_waitTop_0 15 rfl rfl)
theorem dX6_waitTop_16 : decode cX6_waitTop 16 = .ok (.getfield 155, 3) := dk_180 0 155 (dk_at dksX6_waitTop_0 16 rfl rfl)
theorem dX6_waitTop_19 : decode cX6_waitTop 19 = .ok (.iconst 1, 1) := dk_4 (dk_at dksX6_waitTop_0 19 rfl rfl)
theorem dX6_waitTop_20 : decode cX6_waitTop 20 = .ok (.isub, 1) := dk_100 (dk_at dksX6_waitTop_0 20 rfl rfl)
theorem dX6_waitTop_21 : decode cX6_waitTop 21 = .ok (.iaload, 1) := dk_46 (dk_at dksX6_waitTop_0 21 rfl rfl)
theorem dX6_waitTop_22 : decode cX6_waitTop 22 = .ok (.ldc 151, 2) := dk_18 151 (dk_at dksX6_waitTop_0 22 rfl rfl)
theorem dX6_waitTop_24 : decode cX6_waitTop 24 = .ok (.idiv, 1) := dk_108 (dk_at dksX6_waitTop_1 0 rfl rfl)
theorem dX6_waitTop_25 : decode cX6_waitTop 25 = .ok (.ireturn, 1) := dk_172 (dk_at dksX6_waitTop_1 1 rfl rfl)
abbrev cX6_hasOpenSum : ByteArray := prog_20_method_30_code
def yX6_hasOpenSum : MethodName := ⟨RX6, "hasOpenSum", "(I)Z"⟩
def dkwX6_hasOpenSum_1 : List UInt8 := [4, 172, 132, 2, 1, 167, 255, 229, 3, 172]
abbrev dktX6_hasOpenSum_1 : List UInt8 := dkwX6_hasOpenSum_1 ++ []
def dkwX6_hasOpenSum_0 : List UInt8 := [27, 61, 28, 42, 180, 0, 155, 162, 0, 25, 42, 180, 0, 32, 28, 46, 18, 151, 108, 16, 14, 160, 0, 5]
abbrev dktX6_hasOpenSum_0 : List UInt8 := dkwX6_hasOpenSum_0 ++ dktX6_hasOpenSum_1
theorem dksX6_hasOpenSum_0 : cX6_hasOpenSum.data.toList.drop 0 = dktX6_hasOpenSum_0 := by decide +kernel
theorem dksX6_hasOpenSum_1 : cX6_hasOpenSum.data.toList.drop 24 = dktX6_hasOpenSum_1 := dk_seg dksX6_hasOpenSum_0 24 rfl rfl
theorem dX6_hasOpenSum_0 : decode cX6_hasOpenSum 0 = .ok (.iload_n 1, 1) := dk_27 (dk_at dksX6_hasOpenSum_0 0 rfl rfl)
theorem dX6_hasOpenSum_1 : decode cX6_hasOpenSum 1 = .ok (.istore_n 2, 1) := dk_61 (dk_at dksX6_hasOpenSum_0 1 rfl rfl)
theorem dX6_hasOpenSum_2 : decode cX6_hasOpenSum 2 = .ok (.iload_n 2, 1) := dk_28 (dk_at dksX6_hasOpenSum_0 2 rfl rfl)
theorem dX6_hasOpenSum_3 : decode cX6_hasOpenSum 3 = .ok (.aload_n 0, 1) := dk_42 (dk_at dksX6_hasOpenSum_0 3 rfl rfl)
theorem dX6_hasOpenSum_4 : decode cX6_hasOpenSum 4 = .ok (.getfield 155, 3) := dk_180 0 155 (dk_at dksX6_hasOpenSum_0 4 rfl rfl)
theorem dX6_hasOpenSum_7 : decode cX6_hasOpenSum 7 = .ok (.if_icmp .ge 25, 3) := dk_162 0 25 (dk_at dksX6_hasOpenSum_0 7 rfl rfl)
theorem dX6_hasOpenSum_10 : decode cX6_hasOpenSum 10 = .ok (.aload_n 0, 1) := dk_42 (dk_at dksX6_hasOpenSum_0 10 rfl rfl)
theorem dX6_hasOpenSum_11 : decode cX6_hasOpenSum 11 = .ok (.getfield 32, 3) := dk_180 0 32 (dk_at dksX6_hasOpenSum_0 11 rfl rfl)
theorem dX6_hasOpenSum_14 : decode cX6_hasOpenSum 14 = .ok (.iload_n 2, 1) := dk_28 (dk_at dksX6_hasOpenSum_0 14 rfl rfl)
theorem dX6_hasOpenSum_15 : decode cX6_hasOpenSum 15 = .ok (.iaload, 1) := dk_46 (dk_at dksX6_hasOpenSum_0 15 rfl rfl)
theorem dX6_hasOpenSum_16 : decode cX6_hasOpenSum 16 = .ok (.ldc 151, 2) := dk_18 151 (dk_at dksX6_hasOpenSum_0 16 rfl rfl)
theorem dX6_hasOpenSum_18 : decode cX6_hasOpenSum 18 = .ok (.idiv, 1) := dk_108 (dk_at dksX6_hasOpenSum_0 18 rfl rfl)
theorem dX6_hasOpenSum_19 : decode cX6_hasOpenSum 19 = .ok (.bipush 14, 2) := dk_16 14 (dk_at dksX6_hasOpenSum_0 19 rfl rfl)
theorem dX6_hasOpenSum_21 : decode cX6_hasOpenSum 21 = .ok (.if_icmp .ne 5, 3) := dk_160 0 5 (dk_at dksX6_hasOpenSum_0 21 rfl rfl)
theorem dX6_hasOpenSum_24 : decode cX6_hasOpenSum 24 = .ok (.iconst 1, 1) := dk_4 (dk_at dksX6_hasOpenSum_1 0 rfl rfl)
theorem dX6_hasOpenSum_25 : decode cX6_hasOpenSum 25 = .ok (.ireturn, 1) := dk_172 (dk_at dksX6_hasOpenSum_1 1 rfl rfl)
theorem dX6_hasOpenSum_26 : decode cX6_hasOpenSum 26 = .ok (.iinc 2 1, 3) := dk_132 2 1 (dk_at dksX6_hasOpenSum_1 2 rfl rfl)
theorem dX6_hasOpenSum_29 : decode cX6_hasOpenSum 29 = .ok (.goto (-27), 3) := dk_167 255 229 (dk_at dksX6_hasOpenSum_1 5 rfl rfl)
theorem dX6_hasOpenSum_32 : decode cX6_hasOpenSum 32 = .ok (.iconst 0, 1) := dk_3 (dk_at dksX6_hasOpenSum_1 8 rfl rfl)
theorem dX6_hasOpenSum_33 : decode cX6_hasOpenSum 33 = .ok (.ireturn, 1) := dk_172 (dk_at dksX6_hasOpenSum_1 9 rfl rfl)
abbrev cX6_readsCondition : ByteArray := prog_20_method_36_code
def yX6_readsCondition : MethodName := ⟨RX6, "readsCondition", "()Z"⟩
def dkwX6_readsCondition_9 : List UInt8 := [16, 11, 167, 0, 5, 16, 12, 182, 0, 200, 167, 255, 78]
abbrev dktX6_readsCondition_9 : List UInt8 := dkwX6_readsCondition_9 ++ []
def dkwX6_readsCondition_8 : List UInt8 := [16, 124, 160, 0, 7, 4, 167, 0, 4, 3, 182, 0, 197, 42, 42, 182, 0, 131, 16, 38, 160, 0, 8]
abbrev dktX6_readsCondition_8 : List UInt8 := dkwX6_readsCondition_8 ++ dktX6_readsCondition_9
def dkwX6_readsCondition_7 : List UInt8 := [182, 0, 131, 16, 124, 159, 0, 13, 42, 4, 42, 180, 0, 125, 182, 0, 138, 172, 42, 42, 182, 0, 131]
abbrev dktX6_readsCondition_7 : List UInt8 := dkwX6_readsCondition_7 ++ dktX6_readsCondition_8
def dkwX6_readsCondition_6 : List UInt8 := [154, 0, 5, 4, 172, 42, 182, 0, 191, 167, 255, 199, 42, 182, 0, 131, 16, 38, 159, 0, 22, 42]
abbrev dktX6_readsCondition_6 : List UInt8 := dkwX6_readsCondition_6 ++ dktX6_readsCondition_7
def dkwX6_readsCondition_5 : List UInt8 := [42, 180, 0, 152, 4, 100, 181, 0, 152, 42, 42, 180, 0, 125, 4, 96, 181, 0, 125, 42, 180, 0, 155]
abbrev dktX6_readsCondition_5 : List UInt8 := dkwX6_readsCondition_5 ++ dktX6_readsCondition_6
def dkwX6_readsCondition_4 : List UInt8 := [182, 0, 131, 16, 41, 160, 0, 54, 42, 4, 182, 0, 197, 42, 42, 180, 0, 155, 4, 100, 181, 0, 155, 42]
abbrev dktX6_readsCondition_4 : List UInt8 := dkwX6_readsCondition_4 ++ dktX6_readsCondition_5
def dkwX6_readsCondition_3 : List UInt8 := [167, 0, 5, 16, 13, 182, 0, 165, 154, 255, 218, 3, 172, 42, 182, 0, 194, 154, 0, 5, 3, 172, 42]
abbrev dktX6_readsCondition_3 : List UInt8 := dkwX6_readsCondition_3 ++ dktX6_readsCondition_4
def dkwX6_readsCondition_2 : List UInt8 := [159, 0, 12, 42, 182, 0, 131, 16, 40, 160, 0, 28, 42, 42, 182, 0, 131, 16, 33, 160, 0, 8, 16, 10]
abbrev dktX6_readsCondition_2 : List UInt8 := dkwX6_readsCondition_2 ++ dktX6_readsCondition_3
def dkwX6_readsCondition_1 : List UInt8 := [42, 3, 181, 0, 155, 42, 16, 13, 182, 0, 165, 154, 0, 5, 3, 172, 42, 182, 0, 131, 16, 33]
abbrev dktX6_readsCondition_1 : List UInt8 := dkwX6_readsCondition_1 ++ dktX6_readsCondition_2
def dkwX6_readsCondition_0 : List UInt8 := [42, 182, 0, 131, 16, 40, 159, 0, 13, 42, 4, 42, 180, 0, 125, 182, 0, 138, 172, 42, 3, 181, 0, 152]
abbrev dktX6_readsCondition_0 : List UInt8 := dkwX6_readsCondition_0 ++ dktX6_readsCondition_1
theorem dksX6_readsCondition_0 : cX6_readsCondition.data.toList.drop 0 = dktX6_readsCondition_0 := by decide +kernel
theorem dksX6_readsCondition_1 : cX6_readsCondition.data.toList.drop 24 = dktX6_readsCondition_1 := dk_seg dksX6_readsCondition_0 24 rfl rfl
theorem dksX6_readsCondition_2 : cX6_readsCondition.data.toList.drop 46 = dktX6_readsCondition_2 := dk_seg dksX6_readsCondition_1 22 rfl rfl
theorem dksX6_readsCondition_3 : cX6_readsCondition.data.toList.drop 70 = dktX6_readsCondition_3 := dk_seg dksX6_readsCondition_2 24 rfl rfl
theorem dksX6_readsCondition_4 : cX6_readsCondition.data.toList.drop 93 = dktX6_readsCondition_4 := dk_seg dksX6_readsCondition_3 23 rfl rfl
theorem dksX6_readsCondition_5 : cX6_readsCondition.data.toList.drop 117 = dktX6_readsCondition_5 := dk_seg dksX6_readsCondition_4 24 rfl rfl
theorem dksX6_readsCondition_6 : cX6_readsCondition.data.toList.drop 140 = dktX6_readsCondition_6 := dk_seg dksX6_readsCondition_5 23 rfl rfl
theorem dksX6_readsCondition_7 : cX6_readsCondition.data.toList.drop 162 = dktX6_readsCondition_7 := dk_seg dksX6_readsCondition_6 22 rfl rfl
theorem dksX6_readsCondition_8 : cX6_readsCondition.data.toList.drop 185 = dktX6_readsCondition_8 := dk_seg dksX6_readsCondition_7 23 rfl rfl
theorem dksX6_readsCondition_9 : cX6_readsCondition.data.toList.drop 208 = dktX6_readsCondition_9 := dk_seg dksX6_readsCondition_8 23 rfl rfl
theorem dX6_readsCondition_0 : decode cX6_readsCondition 0 = .ok (.aload_n 0, 1) := dk_42 (dk_at dksX6_readsCondition_0 0 rfl rfl)
theorem dX6_readsCondition_1 : decode cX6_readsCondition 1 = .ok (.invokevirtual 131, 3) := dk_182 0 131 (dk_at dksX6_readsCondition_0 1 rfl rfl)
theorem dX6_readsCondition_4 : decode cX6_readsCondition 4 = .ok (.bipush 40, 2) := dk_16 40 (dk_at dksX6_readsCondition_0 4 rfl rfl)
theorem dX6_readsCondition_6 : decode cX6_readsCondition 6 = .ok (.if_icmp .eq 13, 3) := dk_159 0 13 (dk_at dksX6_readsCondition_0 6 rfl rfl)
theorem dX6_readsCondition_9 : decode cX6_readsCondition 9 = .ok (.aload_n 0, 1) := dk_42 (dk_at dksX6_readsCondition_0 9 rfl rfl)
theorem dX6_readsCondition_10 : decode cX6_readsCondition 10 = .ok (.iconst 1, 1) := dk_4 (dk_at dksX6_readsCondition_0 10 rfl rfl)
theorem dX6_readsCondition_11 : decode cX6_readsCondition 11 = .ok (.aload_n 0, 1) := dk_42 (dk_at dksX6_readsCondition_0 11 rfl rfl)
theorem dX6_readsCondition_12 : decode cX6_readsCondition 12 = .ok (.getfield 125, 3) := dk_180 0 125 (dk_at dksX6_readsCondition_0 12 rfl rfl)
theorem dX6_readsCondition_15 : decode cX6_readsCondition 15 = .ok (.invokevirtual 138, 3) := dk_182 0 138 (dk_at dksX6_readsCondition_0 15 rfl rfl)
theorem dX6_readsCondition_18 : decode cX6_readsCondition 18 = .ok (.ireturn, 1) := dk_172 (dk_at dksX6_readsCondition_0 18 rfl rfl)
theorem dX6_readsCondition_19 : decode cX6_readsCondition 19 = .ok (.aload_n 0, 1) := dk_42 (dk_at dksX6_readsCondition_0 19 rfl rfl)
theorem dX6_readsCondition_20 : decode cX6_readsCondition 20 = .ok (.iconst 0, 1) := dk_3 (dk_at dksX6_readsCondition_0 20 rfl rfl)
theorem dX6_readsCondition_21 : decode cX6_readsCondition 21 = .ok (.putfield 152, 3) := dk_181 0 152 (dk_at dksX6_readsCondition_0 21 rfl rfl)
theorem dX6_readsCondition_24 : decode cX6_readsCondition 24 = .ok (.aload_n 0, 1) := dk_42 (dk_at dksX6_readsCondition_1 0 rfl rfl)
theorem dX6_readsCondition_25 : decode cX6_readsCondition 25 = .ok (.iconst 0, 1) := dk_3 (dk_at dksX6_readsCondition_1 1 rfl rfl)
theorem dX6_readsCondition_26 : decode cX6_readsCondition 26 = .ok (.putfield 155, 3) := dk_181 0 155 (dk_at dksX6_readsCondition_1 2 rfl rfl)
theorem dX6_readsCondition_29 : decode cX6_readsCondition 29 = .ok (.aload_n 0, 1) := dk_42 (dk_at dksX6_readsCondition_1 5 rfl rfl)
theorem dX6_readsCondition_30 : decode cX6_readsCondition 30 = .ok (.bipush 13, 2) := dk_16 13 (dk_at dksX6_readsCondition_1 6 rfl rfl)
theorem dX6_readsCondition_32 : decode cX6_readsCondition 32 = .ok (.invokevirtual 165, 3) := dk_182 0 165 (dk_at dksX6_readsCondition_1 8 rfl rfl)
theorem dX6_readsCondition_35 : decode cX6_readsCondition 35 = .ok (.ifCond .ne 5, 3) := dk_154 0 5 (dk_at dksX6_readsCondition_1 11 rfl rfl)
theorem dX6_readsCondition_38 : decode cX6_readsCondition 38 = .ok (.iconst 0, 1) := dk_3 (dk_at dksX6_readsCondition_1 14 rfl rfl)
theorem dX6_readsCondition_39 : decode cX6_readsCondition 39 = .ok (.ireturn, 1) := dk_172 (dk_at dksX6_readsCondition_1 15 rfl rfl)
theorem dX6_readsCondition_40 : decode cX6_readsCondition 40 = .ok (.aload_n 0, 1) := dk_42 (dk_at dksX6_readsCondition_1 16 rfl rfl)
theorem dX6_readsCondition_41 : decode cX6_readsCondition 41 = .ok (.invokevirtual 131, 3) := dk_182 0 131 (dk_at dksX6_readsCondition_1 17 rfl rfl)
theorem dX6_readsCondition_44 : decode cX6_readsCondition 44 = .ok (.bipush 33, 2) := dk_16 33 (dk_at dksX6_readsCondition_1 20 rfl rfl)
theorem dX6_readsCondition_46 : decode cX6_readsCondition 46 = .ok (.if_icmp .eq 12, 3) := dk_159 0 12 (dk_at dksX6_readsCondition_2 0 rfl rfl)
theorem dX6_readsCondition_49 : decode cX6_readsCondition 49 = .ok (.aload_n 0, 1) := dk_42 (dk_at dksX6_readsCondition_2 3 rfl rfl)
theorem dX6_readsCondition_50 : decode cX6_readsCondition 50 = .ok (.invokevirtual 131, 3) := dk_182 0 131 (dk_at dksX6_readsCondition_2 4 rfl rfl)
theorem dX6_readsCondition_53 : decode cX6_readsCondition 53 = .ok (.bipush 40, 2) := dk_16 40 (dk_at dksX6_readsCondition_2 7 rfl rfl)
theorem dX6_readsCondition_55 : decode cX6_readsCondition 55 = .ok (.if_icmp .ne 28, 3) := dk_160 0 28 (dk_at dksX6_readsCondition_2 9 rfl rfl)
theorem dX6_readsCondition_58 : decode cX6_readsCondition 58 = .ok (.aload_n 0, 1) := dk_42 (dk_at dksX6_readsCondition_2 12 rfl rfl)
theorem dX6_readsCondition_59 : decode cX6_readsCondition 59 = .ok (.aload_n 0, 1) := dk_42 (dk_at dksX6_readsCondition_2 13 rfl rfl)
theorem dX6_readsCondition_60 : decode cX6_readsCondition 60 = .ok (.invokevirtual 131, 3) := dk_182 0 131 (dk_at dksX6_readsCondition_2 14 rfl rfl)
theorem dX6_readsCondition_63 : decode cX6_readsCondition 63 = .ok (.bipush 33, 2) := dk_16 33 (dk_at dksX6_readsCondition_2 17 rfl rfl)
theorem dX6_readsCondition_65 : decode cX6_readsCondition 65 = .ok (.if_icmp .ne 8, 3) := dk_160 0 8 (dk_at dksX6_readsCondition_2 19 rfl rfl)
theorem dX6_readsCondition_68 : decode cX6_readsCondition 68 = .ok (.bipush 10, 2) := dk_16 10 (dk_at dksX6_readsCondition_2 22 rfl rfl)
theorem dX6_readsCondition_70 : decode cX6_readsCondition 70 = .ok (.goto 5, 3) := dk_167 0 5 (dk_at dksX6_readsCondition_3 0 rfl rfl)
theorem dX6_readsCondition_73 : decode cX6_readsCondition 73 = .ok (.bipush 13, 2) := dk_16 13 (dk_at dksX6_readsCondition_3 3 rfl rfl)
theorem dX6_readsCondition_75 : decode cX6_readsCondition 75 = .ok (.invokevirtual 165, 3) := dk_182 0 165 (dk_at dksX6_readsCondition_3 5 rfl rfl)
theorem dX6_readsCondition_78 : decode cX6_readsCondition 78 = .ok (.ifCond .ne (-38), 3) := dk_154 255 218 (dk_at dksX6_readsCondition_3 8 rfl rfl)
theorem dX6_readsCondition_81 : decode cX6_readsCondition 81 = .ok (.iconst 0, 1) := dk_3 (dk_at dksX6_readsCondition_3 11 rfl rfl)
theorem dX6_readsCondition_82 : decode cX6_readsCondition 82 = .ok (.ireturn, 1) := dk_172 (dk_at dksX6_readsCondition_3 12 rfl rfl)
theorem dX6_readsCondition_83 : decode cX6_readsCondition 83 = .ok (.aload_n 0, 1) := dk_42 (dk_at dksX6_readsCondition_3 13 rfl rfl)
theorem dX6_readsCondition_84 : decode cX6_readsCondition 84 = .ok (.invokevirtual 194, 3) := dk_182 0 194 (dk_at dksX6_readsCondition_3 14 rfl rfl)
theorem dX6_readsCondition_87 : decode cX6_readsCondition 87 = .ok (.ifCond .ne 5, 3) := dk_154 0 5 (dk_at dksX6_readsCondition_3 17 rfl rfl)
theorem dX6_readsCondition_90 : decode cX6_readsCondition 90 = .ok (.iconst 0, 1) := dk_3 (dk_at dksX6_readsCondition_3 20 rfl rfl)
theorem dX6_readsCondition_91 : decode cX6_readsCondition 91 = .ok (.ireturn, 1) := dk_172 (dk_at dksX6_readsCondition_3 21 rfl rfl)
theorem dX6_readsCondition_92 : decode cX6_readsCondition 92 = .ok (.aload_n 0, 1) := dk_42 (dk_at dksX6_readsCondition_3 22 rfl rfl)
theorem dX6_readsCondition_93 : decode cX6_readsCondition 93 = .ok (.invokevirtual 131, 3) := dk_182 0 131 (dk_at dksX6_readsCondition_4 0 rfl rfl)
theorem dX6_readsCondition_96 : decode cX6_readsCondition 96 = .ok (.bipush 41, 2) := dk_16 41 (dk_at dksX6_readsCondition_4 3 rfl rfl)
theorem dX6_readsCondition_98 : decode cX6_readsCondition 98 = .ok (.if_icmp .ne 54, 3) := dk_160 0 54 (dk_at dksX6_readsCondition_4 5 rfl rfl)
theorem dX6_readsCondition_101 : decode cX6_readsCondition 101 = .ok (.aload_n 0, 1) := dk_42 (dk_at dksX6_readsCondition_4 8 rfl rfl)
theorem dX6_readsCondition_102 : decode cX6_readsCondition 102 = .ok (.iconst 1, 1) := dk_4 (dk_at dksX6_readsCondition_4 9 rfl rfl)
theorem dX6_readsCondition_103 : decode cX6_readsCondition 103 = .ok (.invokevirtual 197, 3) := dk_182 0 197 (dk_at dksX6_readsCondition_4 10 rfl rfl)
theorem dX6_readsCondition_106 : decode cX6_readsCondition 106 = .ok (.aload_n 0, 1) := dk_42 (dk_at dksX6_readsCondition_4 13 rfl rfl)
theorem dX6_readsCondition_107 : decode cX6_readsCondition 107 = .ok (.aload_n 0, 1) := dk_42 (dk_at dksX6_readsCondition_4 14 rfl rfl)
theorem dX6_readsCondition_108 : decode cX6_readsCondition 108 = .ok (.getfield 155, 3) := dk_180 0 155 (dk_at dksX6_readsCondition_4 15 rfl rfl)
theorem dX6_readsCondition_111 : decode cX6_readsCondition 111 = .ok (.iconst 1, 1) := dk_4 (dk_at dksX6_readsCondition_4 18 rfl rfl)
theorem dX6_readsCondition_112 : decode cX6_readsCondition 112 = .ok (.isub, 1) := dk_100 (dk_at dksX6_readsCondition_4 19 rfl rfl)
theorem dX6_readsCondition_113 : decode cX6_readsCondition 113 = .ok (.putfield 155, 3) := dk_181 0 155 (dk_at dksX6_readsCondition_4 20 rfl rfl)
theorem dX6_readsCondition_116 : decode cX6_readsCondition 116 = .ok (.aload_n 0, 1) := dk_42 (dk_at dksX6_readsCondition_4 23 rfl rfl)
theorem dX6_readsCondition_117 : decode cX6_readsCondition 117 = .ok (.aload_n 0, 1) := dk_42 (dk_at dksX6_readsCondition_5 0 rfl rfl)
theorem dX6_readsCondition_118 : decode cX6_readsCondition 118 = .ok (.getfield 152, 3) := dk_180 0 152 (dk_at dksX6_readsCondition_5 1 rfl rfl)
theorem dX6_readsCondition_121 : decode cX6_readsCondition 121 = .ok (.iconst 1, 1) := dk_4 (dk_at dksX6_readsCondition_5 4 rfl rfl)
theorem dX6_readsCondition_122 : decode cX6_readsCondition 122 = .ok (.isub, 1) := dk_100 (dk_at dksX6_readsCondition_5 5 rfl rfl)
theorem dX6_readsCondition_123 : decode cX6_readsCondition 123 = .ok (.putfield 152, 3) := dk_181 0 152 (dk_at dksX6_readsCondition_5 6 rfl rfl)
theorem dX6_readsCondition_126 : decode cX6_readsCondition 126 = .ok (.aload_n 0, 1) := dk_42 (dk_at dksX6_readsCondition_5 9 rfl rfl)
theorem dX6_readsCondition_127 : decode cX6_readsCondition 127 = .ok (.aload_n 0, 1) := dk_42 (dk_at dksX6_readsCondition_5 10 rfl rfl)
theorem dX6_readsCondition_128 : decode cX6_readsCondition 128 = .ok (.getfield 125, 3) := dk_180 0 125 (dk_at dksX6_readsCondition_5 11 rfl rfl)
theorem dX6_readsCondition_131 : decode cX6_readsCondition 131 = .ok (.iconst 1, 1) := dk_4 (dk_at dksX6_readsCondition_5 14 rfl rfl)
theorem dX6_readsCondition_132 : decode cX6_readsCondition 132 = .ok (.iadd, 1) := dk_96 (dk_at dksX6_readsCondition_5 15 rfl rfl)
theorem dX6_readsCondition_133 : decode cX6_readsCondition 133 = .ok (.putfield 125, 3) := dk_181 0 125 (dk_at dksX6_readsCondition_5 16 rfl rfl)
theorem dX6_readsCondition_136 : decode cX6_readsCondition 136 = .ok (.aload_n 0, 1) := dk_42 (dk_at dksX6_readsCondition_5 19 rfl rfl)
theorem dX6_readsCondition_137 : decode cX6_readsCondition 137 = .ok (.getfield 155, 3) := dk_180 0 155 (dk_at dksX6_readsCondition_5 20 rfl rfl)
theorem dX6_readsCondition_140 : decode cX6_readsCondition 140 = .ok (.ifCond .ne 5, 3) := dk_154 0 5 (dk_at dksX6_readsCondition_6 0 rfl rfl)
theorem dX6_readsCondition_143 : decode cX6_readsCondition 143 = .ok (.iconst 1, 1) := dk_4 (dk_at dksX6_readsCondition_6 3 rfl rfl)
theorem dX6_readsCondition_144 : decode cX6_readsCondition 144 = .ok (.ireturn, 1) := dk_172 (dk_at dksX6_readsCondition_6 4 rfl rfl)
theorem dX6_readsCondition_145 : decode cX6_readsCondition 145 = .ok (.aload_n 0, 1) := dk_42 (dk_at dksX6_readsCondition_6 5 rfl rfl)
theorem dX6_readsCondition_146 : decode cX6_readsCondition 146 = .ok (.invokevirtual 191, 3) := dk_182 0 191 (dk_at dksX6_readsCondition_6 6 rfl rfl)
theorem dX6_readsCondition_149 : decode cX6_readsCondition 149 = .ok (.goto (-57), 3) := dk_167 255 199 (dk_at dksX6_readsCondition_6 9 rfl rfl)
theorem dX6_readsCondition_152 : decode cX6_readsCondition 152 = .ok (.aload_n 0, 1) := dk_42 (dk_at dksX6_readsCondition_6 12 rfl rfl)
theorem dX6_readsCondition_153 : decode cX6_readsCondition 153 = .ok (.invokevirtual 131, 3) := dk_182 0 131 (dk_at dksX6_readsCondition_6 13 rfl rfl)
theorem dX6_readsCondition_156 : decode cX6_readsCondition 156 = .ok (.bipush 38, 2) := dk_16 38 (dk_at dksX6_readsCondition_6 16 rfl rfl)
theorem dX6_readsCondition_158 : decode cX6_readsCondition 158 = .ok (.if_icmp .eq 22, 3) := dk_159 0 22 (dk_at dksX6_readsCondition_6 18 rfl rfl)
theorem dX6_readsCondition_161 : decode cX6_readsCondition 161 = .ok (.aload_n 0, 1) := dk_42 (dk_at dksX6_readsCondition_6 21 rfl rfl)
theorem dX6_readsCondition_162 : decode cX6_readsCondition 162 = .ok (.invokevirtual 131, 3) := dk_182 0 131 (dk_at dksX6_readsCondition_7 0 rfl rfl)
theorem dX6_readsCondition_165 : decode cX6_readsCondition 165 = .ok (.bipush 124, 2) := dk_16 124 (dk_at dksX6_readsCondition_7 3 rfl rfl)
theorem dX6_readsCondition_167 : decode cX6_readsCondition 167 = .ok (.if_icmp .eq 13, 3) := dk_159 0 13 (dk_at dksX6_readsCondition_7 5 rfl rfl)
theorem dX6_readsCondition_170 : decode cX6_readsCondition 170 = .ok (.aload_n 0, 1) := dk_42 (dk_at dksX6_readsCondition_7 8 rfl rfl)
theorem dX6_readsCondition_171 : decode cX6_readsCondition 171 = .ok (.iconst 1, 1) := dk_4 (dk_at dksX6_readsCondition_7 9 rfl rfl)
theorem dX6_readsCondition_172 : decode cX6_readsCondition 172 = .ok (.aload_n 0, 1) := dk_42 (dk_at dksX6_readsCondition_7 10 rfl rfl)
theorem dX6_readsCondition_173 : decode cX6_readsCondition 173 = .ok (.getfield 125, 3) := dk_180 0 125 (dk_at dksX6_readsCondition_7 11 rfl rfl)
theorem dX6_readsCondition_176 : decode cX6_readsCondition 176 = .ok (.invokevirtual 138, 3) := dk_182 0 138 (dk_at dksX6_readsCondition_7 14 rfl rfl)
theorem dX6_readsCondition_179 : decode cX6_readsCondition 179 = .ok (.ireturn, 1) := dk_172 (dk_at dksX6_readsCondition_7 17 rfl rfl)
theorem dX6_readsCondition_180 : decode cX6_readsCondition 180 = .ok (.aload_n 0, 1) := dk_42 (dk_at dksX6_readsCondition_7 18 rfl rfl)
theorem dX6_readsCondition_181 : decode cX6_readsCondition 181 = .ok (.aload_n 0, 1) := dk_42 (dk_at dksX6_readsCondition_7 19 rfl rfl)
theorem dX6_readsCondition_182 : decode cX6_readsCondition 182 = .ok (.invokevirtual 131, 3) := dk_182 0 131 (dk_at dksX6_readsCondition_7 20 rfl rfl)
theorem dX6_readsCondition_185 : decode cX6_readsCondition 185 = .ok (.bipush 124, 2) := dk_16 124 (dk_at dksX6_readsCondition_8 0 rfl rfl)
theorem dX6_readsCondition_187 : decode cX6_readsCondition 187 = .ok (.if_icmp .ne 7, 3) := dk_160 0 7 (dk_at dksX6_readsCondition_8 2 rfl rfl)
theorem dX6_readsCondition_190 : decode cX6_readsCondition 190 = .ok (.iconst 1, 1) := dk_4 (dk_at dksX6_readsCondition_8 5 rfl rfl)
theorem dX6_readsCondition_191 : decode cX6_readsCondition 191 = .ok (.goto 4, 3) := dk_167 0 4 (dk_at dksX6_readsCondition_8 6 rfl rfl)
theorem dX6_readsCondition_194 : decode cX6_readsCondition 194 = .ok (.iconst 0, 1) := dk_3 (dk_at dksX6_readsCondition_8 9 rfl rfl)
theorem dX6_readsCondition_195 : decode cX6_readsCondition 195 = .ok (.invokevirtual 197, 3) := dk_182 0 197 (dk_at dksX6_readsCondition_8 10 rfl rfl)
theorem dX6_readsCondition_198 : decode cX6_readsCondition 198 = .ok (.aload_n 0, 1) := dk_42 (dk_at dksX6_readsCondition_8 13 rfl rfl)
theorem dX6_readsCondition_199 : decode cX6_readsCondition 199 = .ok (.aload_n 0, 1) := dk_42 (dk_at dksX6_readsCondition_8 14 rfl rfl)
theorem dX6_readsCondition_200 : decode cX6_readsCondition 200 = .ok (.invokevirtual 131, 3) := dk_182 0 131 (dk_at dksX6_readsCondition_8 15 rfl rfl)
theorem dX6_readsCondition_203 : decode cX6_readsCondition 203 = .ok (.bipush 38, 2) := dk_16 38 (dk_at dksX6_readsCondition_8 18 rfl rfl)
theorem dX6_readsCondition_205 : decode cX6_readsCondition 205 = .ok (.if_icmp .ne 8, 3) := dk_160 0 8 (dk_at dksX6_readsCondition_8 20 rfl rfl)
theorem dX6_readsCondition_208 : decode cX6_readsCondition 208 = .ok (.bipush 11, 2) := dk_16 11 (dk_at dksX6_readsCondition_9 0 rfl rfl)
theorem dX6_readsCondition_210 : decode cX6_readsCondition 210 = .ok (.goto 5, 3) := dk_167 0 5 (dk_at dksX6_readsCondition_9 2 rfl rfl)
theorem dX6_readsCondition_213 : decode cX6_readsCondition 213 = .ok (.bipush 12, 2) := dk_16 12 (dk_at dksX6_readsCondition_9 5 rfl rfl)
theorem dX6_readsCondition_215 : decode cX6_readsCondition 215 = .ok (.invokevirtual 200, 3) := dk_182 0 200 (dk_at dksX6_readsCondition_9 7 rfl rfl)
theorem dX6_readsCondition_218 : decode cX6_readsCondition 218 = .ok (.goto (-178), 3) := dk_167 255 78 (dk_at dksX6_readsCondition_9 10 rfl rfl)
abbrev cX6_readsCompared : ByteArray := prog_20_method_35_code
def yX6_readsCompared : MethodName := ⟨RX6, "readsCompared", "()Z"⟩
def dkwX6_readsCompared_4 : List UInt8 := [182, 0, 191, 4, 172]
abbrev dktX6_readsCompared_4 : List UInt8 := dkwX6_readsCompared_4 ++ []
def dkwX6_readsCompared_3 : List UInt8 := [180, 0, 125, 4, 96, 181, 0, 125, 42, 182, 0, 188, 154, 0, 5, 3, 172, 42, 27, 3, 182, 0, 161, 42]
abbrev dktX6_readsCompared_3 : List UInt8 := dkwX6_readsCompared_3 ++ dktX6_readsCompared_4
def dkwX6_readsCompared_2 : List UInt8 := [167, 0, 4, 2, 60, 27, 2, 160, 0, 13, 42, 4, 42, 180, 0, 125, 182, 0, 138, 172, 42, 42]
abbrev dktX6_readsCompared_2 : List UInt8 := dkwX6_readsCompared_2 ++ dktX6_readsCompared_3
def dkwX6_readsCompared_1 : List UInt8 := [182, 0, 131, 16, 62, 160, 0, 8, 16, 8, 167, 0, 18, 42, 182, 0, 131, 16, 61, 160, 0, 8, 16, 9]
abbrev dktX6_readsCompared_1 : List UInt8 := dkwX6_readsCompared_1 ++ dktX6_readsCompared_2
def dkwX6_readsCompared_0 : List UInt8 := [42, 182, 0, 188, 154, 0, 5, 3, 172, 42, 182, 0, 131, 16, 60, 160, 0, 8, 16, 7, 167, 0, 32, 42]
abbrev dktX6_readsCompared_0 : List UInt8 := dkwX6_readsCompared_0 ++ dktX6_readsCompared_1
theorem dksX6_readsCompared_0 : cX6_readsCompared.data.toList.drop 0 = dktX6_readsCompared_0 := by decide +kernel
theorem dksX6_readsCompared_1 : cX6_readsCompared.data.toList.drop 24 = dktX6_readsCompared_1 := dk_seg dksX6_readsCompared_0 24 rfl rfl
theorem dksX6_readsCompared_2 : cX6_readsCompared.data.toList.drop 48 = dktX6_readsCompared_2 := dk_seg dksX6_readsCompared_1 24 rfl rfl
theorem dksX6_readsCompared_3 : cX6_readsCompared.data.toList.drop 70 = dktX6_readsCompared_3 := dk_seg dksX6_readsCompared_2 22 rfl rfl
theorem dksX6_readsCompared_4 : cX6_readsCompared.data.toList.drop 94 = dktX6_readsCompared_4 := dk_seg dksX6_readsCompared_3 24 rfl rfl
theorem dX6_readsCompared_0 : decode cX6_readsCompared 0 = .ok (.aload_n 0, 1) := dk_42 (dk_at dksX6_readsCompared_0 0 rfl rfl)
theorem dX6_readsCompared_1 : decode cX6_readsCompared 1 = .ok (.invokevirtual 188, 3) := dk_182 0 188 (dk_at dksX6_readsCompared_0 1 rfl rfl)
theorem dX6_readsCompared_4 : decode cX6_readsCompared 4 = .ok (.ifCond .ne 5, 3) := dk_154 0 5 (dk_at dksX6_readsCompared_0 4 rfl rfl)
theorem dX6_readsCompared_7 : decode cX6_readsCompared 7 = .ok (.iconst 0, 1) := dk_3 (dk_at dksX6_readsCompared_0 7 rfl rfl)
theorem dX6_readsCompared_8 : decode cX6_readsCompared 8 = .ok (.ireturn, 1) := dk_172 (dk_at dksX6_readsCompared_0 8 rfl rfl)
theorem dX6_readsCompared_9 : decode cX6_readsCompared 9 = .ok (.aload_n 0, 1) := dk_42 (dk_at dksX6_readsCompared_0 9 rfl rfl)
theorem dX6_readsCompared_10 : decode cX6_readsCompared 10 = .ok (.invokevirtual 131, 3) := dk_182 0 131 (dk_at dksX6_readsCompared_0 10 rfl rfl)
theorem dX6_readsCompared_13 : decode cX6_readsCompared 13 = .ok (.bipush 60, 2) := dk_16 60 (dk_at dksX6_readsCompared_0 13 rfl rfl)
theorem dX6_readsCompared_15 : decode cX6_readsCompared 15 = .ok (.if_icmp .ne 8, 3) := dk_160 0 8 (dk_at dksX6_readsCompared_0 15 rfl rfl)
theorem dX6_readsCompared_18 : decode cX6_readsCompared 18 = .ok (.bipush 7, 2) := dk_16 7 (dk_at dksX6_readsCompared_0 18 rfl rfl)
theorem dX6_readsCompared_20 : decode cX6_readsCompared 20 = .ok (.goto 32, 3) := dk_167 0 32 (dk_at dksX6_readsCompared_0 20 rfl rfl)
theorem dX6_readsCompared_23 : decode cX6_readsCompared 23 = .ok (.aload_n 0, 1) := dk_42 (dk_at dksX6_readsCompared_0 23 rfl rfl)
theorem dX6_readsCompared_24 : decode cX6_readsCompared 24 = .ok (.invokevirtual 131, 3) := dk_182 0 131 (dk_at dksX6_readsCompared_1 0 rfl rfl)
theorem dX6_readsCompared_27 : decode cX6_readsCompared 27 = .ok (.bipush 62, 2) := dk_16 62 (dk_at dksX6_readsCompared_1 3 rfl rfl)
theorem dX6_readsCompared_29 : decode cX6_readsCompared 29 = .ok (.if_icmp .ne 8, 3) := dk_160 0 8 (dk_at dksX6_readsCompared_1 5 rfl rfl)
theorem dX6_readsCompared_32 : decode cX6_readsCompared 32 = .ok (.bipush 8, 2) := dk_16 8 (dk_at dksX6_readsCompared_1 8 rfl rfl)
theorem dX6_readsCompared_34 : decode cX6_readsCompared 34 = .ok (.goto 18, 3) := dk_167 0 18 (dk_at dksX6_readsCompared_1 10 rfl rfl)
theorem dX6_readsCompared_37 : decode cX6_readsCompared 37 = .ok (.aload_n 0, 1) := dk_42 (dk_at dksX6_readsCompared_1 13 rfl rfl)
theorem dX6_readsCompared_38 : decode cX6_readsCompared 38 = .ok (.invokevirtual 131, 3) := dk_182 0 131 (dk_at dksX6_readsCompared_1 14 rfl rfl)
theorem dX6_readsCompared_41 : decode cX6_readsCompared 41 = .ok (.bipush 61, 2) := dk_16 61 (dk_at dksX6_readsCompared_1 17 rfl rfl)
theorem dX6_readsCompared_43 : decode cX6_readsCompared 43 = .ok (.if_icmp .ne 8, 3) := dk_160 0 8 (dk_at dksX6_readsCompared_1 19 rfl rfl)
theorem dX6_readsCompared_46 : decode cX6_readsCompared 46 = .ok (.bipush 9, 2) := dk_16 9 (dk_at dksX6_readsCompared_1 22 rfl rfl)
theorem dX6_readsCompared_48 : decode cX6_readsCompared 48 = .ok (.goto 4, 3) := dk_167 0 4 (dk_at dksX6_readsCompared_2 0 rfl rfl)
theorem dX6_readsCompared_51 : decode cX6_readsCompared 51 = .ok (.iconst (-1), 1) := dk_2 (dk_at dksX6_readsCompared_2 3 rfl rfl)
theorem dX6_readsCompared_52 : decode cX6_readsCompared 52 = .ok (.istore_n 1, 1) := dk_60 (dk_at dksX6_readsCompared_2 4 rfl rfl)
theorem dX6_readsCompared_53 : decode cX6_readsCompared 53 = .ok (.iload_n 1, 1) := dk_27 (dk_at dksX6_readsCompared_2 5 rfl rfl)
theorem dX6_readsCompared_54 : decode cX6_readsCompared 54 = .ok (.iconst (-1), 1) := dk_2 (dk_at dksX6_readsCompared_2 6 rfl rfl)
theorem dX6_readsCompared_55 : decode cX6_readsCompared 55 = .ok (.if_icmp .ne 13, 3) := dk_160 0 13 (dk_at dksX6_readsCompared_2 7 rfl rfl)
theorem dX6_readsCompared_58 : decode cX6_readsCompared 58 = .ok (.aload_n 0, 1) := dk_42 (dk_at dksX6_readsCompared_2 10 rfl rfl)
theorem dX6_readsCompared_59 : decode cX6_readsCompared 59 = .ok (.iconst 1, 1) := dk_4 (dk_at dksX6_readsCompared_2 11 rfl rfl)
theorem dX6_readsCompared_60 : decode cX6_readsCompared 60 = .ok (.aload_n 0, 1) := dk_42 (dk_at dksX6_readsCompared_2 12 rfl rfl)
theorem dX6_readsCompared_61 : decode cX6_readsCompared 61 = .ok (.getfield 125, 3) := dk_180 0 125 (dk_at dksX6_readsCompared_2 13 rfl rfl)
theorem dX6_readsCompared_64 : decode cX6_readsCompared 64 = .ok (.invokevirtual 138, 3) := dk_182 0 138 (dk_at dksX6_readsCompared_2 16 rfl rfl)
theorem dX6_readsCompared_67 : decode cX6_readsCompared 67 = .ok (.ireturn, 1) := dk_172 (dk_at dksX6_readsCompared_2 19 rfl rfl)
theorem dX6_readsCompared_68 : decode cX6_readsCompared 68 = .ok (.aload_n 0, 1) := dk_42 (dk_at dksX6_readsCompared_2 20 rfl rfl)
theorem dX6_readsCompared_69 : decode cX6_readsCompared 69 = .ok (.aload_n 0, 1) := dk_42 (dk_at dksX6_readsCompared_2 21 rfl rfl)
theorem dX6_readsCompared_70 : decode cX6_readsCompared 70 = .ok (.getfield 125, 3) := dk_180 0 125 (dk_at dksX6_readsCompared_3 0 rfl rfl)
theorem dX6_readsCompared_73 : decode cX6_readsCompared 73 = .ok (.iconst 1, 1) := dk_4 (dk_at dksX6_readsCompared_3 3 rfl rfl)
theorem dX6_readsCompared_74 : decode cX6_readsCompared 74 = .ok (.iadd, 1) := dk_96 (dk_at dksX6_readsCompared_3 4 rfl rfl)
theorem dX6_readsCompared_75 : decode cX6_readsCompared 75 = .ok (.putfield 125, 3) := dk_181 0 125 (dk_at dksX6_readsCompared_3 5 rfl rfl)
theorem dX6_readsCompared_78 : decode cX6_readsCompared 78 = .ok (.aload_n 0, 1) := dk_42 (dk_at dksX6_readsCompared_3 8 rfl rfl)
theorem dX6_readsCompared_79 : decode cX6_readsCompared 79 = .ok (.invokevirtual 188, 3) := dk_182 0 188 (dk_at dksX6_readsCompared_3 9 rfl rfl)
theorem dX6_readsCompared_82 : decode cX6_readsCompared 82 = .ok (.ifCond .ne 5, 3) := dk_154 0 5 (dk_at dksX6_readsCompared_3 12 rfl rfl)
theorem dX6_readsCompared_85 : decode cX6_readsCompared 85 = .ok (.iconst 0, 1) := dk_3 (dk_at dksX6_readsCompared_3 15 rfl rfl)
theorem dX6_readsCompared_86 : decode cX6_readsCompared 86 = .ok (.ireturn, 1) := dk_172 (dk_at dksX6_readsCompared_3 16 rfl rfl)
theorem dX6_readsCompared_87 : decode cX6_readsCompared 87 = .ok (.aload_n 0, 1) := dk_42 (dk_at dksX6_readsCompared_3 17 rfl rfl)
theorem dX6_readsCompared_88 : decode cX6_readsCompared 88 = .ok (.iload_n 1, 1) := dk_27 (dk_at dksX6_readsCompared_3 18 rfl rfl)
theorem dX6_readsCompared_89 : decode cX6_readsCompared 89 = .ok (.iconst 0, 1) := dk_3 (dk_at dksX6_readsCompared_3 19 rfl rfl)
theorem dX6_readsCompared_90 : decode cX6_readsCompared 90 = .ok (.invokevirtual 161, 3) := dk_182 0 161 (dk_at dksX6_readsCompared_3 20 rfl rfl)
theorem dX6_readsCompared_93 : decode cX6_readsCompared 93 = .ok (.aload_n 0, 1) := dk_42 (dk_at dksX6_readsCompared_3 23 rfl rfl)
theorem dX6_readsCompared_94 : decode cX6_readsCompared 94 = .ok (.invokevirtual 191, 3) := dk_182 0 191 (dk_at dksX6_readsCompared_4 0 rfl rfl)
theorem dX6_readsCompared_97 : decode cX6_readsCompared 97 = .ok (.iconst 1, 1) := dk_4 (dk_at dksX6_readsCompared_4 3 rfl rfl)
theorem dX6_readsCompared_98 : decode cX6_readsCompared 98 = .ok (.ireturn, 1) := dk_172 (dk_at dksX6_readsCompared_4 4 rfl rfl)
abbrev cX6_endsPiece : ByteArray := prog_20_method_32_code
def yX6_endsPiece : MethodName := ⟨RX6, "endsPiece", "()V"⟩
def dkwX6_endsPiece_1 : List UInt8 := [181, 0, 155, 42, 42, 180, 0, 152, 4, 100, 181, 0, 152, 167, 255, 220, 177]
abbrev dktX6_endsPiece_1 : List UInt8 := dkwX6_endsPiece_1 ++ []
def dkwX6_endsPiece_0 : List UInt8 := [42, 182, 0, 158, 16, 10, 160, 0, 33, 42, 16, 10, 3, 182, 0, 161, 42, 42, 180, 0, 155, 4, 100]
abbrev dktX6_endsPiece_0 : List UInt8 := dkwX6_endsPiece_0 ++ dktX6_endsPiece_1
theorem dksX6_endsPiece_0 : cX6_endsPiece.data.toList.drop 0 = dktX6_endsPiece_0 := by decide +kernel
theorem dksX6_endsPiece_1 : cX6_endsPiece.data.toList.drop 23 = dktX6_endsPiece_1 := dk_seg dksX6_endsPiece_0 23 rfl rfl
theorem dX6_endsPiece_0 : decode cX6_endsPiece 0 = .ok (.aload_n 0, 1) := dk_42 (dk_at dksX6_endsPiece_0 0 rfl rfl)
theorem dX6_endsPiece_1 : decode cX6_endsPiece 1 = .ok (.invokevirtual 158, 3) := dk_182 0 158 (dk_at dksX6_endsPiece_0 1 rfl rfl)
theorem dX6_endsPiece_4 : decode cX6_endsPiece 4 = .ok (.bipush 10, 2) := dk_16 10 (dk_at dksX6_endsPiece_0 4 rfl rfl)
theorem dX6_endsPiece_6 : decode cX6_endsPiece 6 = .ok (.if_icmp .ne 33, 3) := dk_160 0 33 (dk_at dksX6_endsPiece_0 6 rfl rfl)
theorem dX6_endsPiece_9 : decode cX6_endsPiece 9 = .ok (.aload_n 0, 1) := dk_42 (dk_at dksX6_endsPiece_0 9 rfl rfl)
theorem dX6_endsPiece_10 : decode cX6_endsPiece 10 = .ok (.bipush 10, 2) := dk_16 10 (dk_at dksX6_endsPiece_0 10 rfl rfl)
theorem dX6_endsPiece_12 : decode cX6_endsPiece 12 = .ok (.iconst 0, 1) := dk_3 (dk_at dksX6_endsPiece_0 12 rfl rfl)
theorem dX6_endsPiece_13 : decode cX6_endsPiece 13 = .ok (.invokevirtual 161, 3) := dk_182 0 161 (dk_at dksX6_endsPiece_0 13 rfl rfl)
theorem dX6_endsPiece_16 : decode cX6_endsPiece 16 = .ok (.aload_n 0, 1) := dk_42 (dk_at dksX6_endsPiece_0 16 rfl rfl)
theorem dX6_endsPiece_17 : decode cX6_endsPiece 17 = .ok (.aload_n 0, 1) := dk_42 (dk_at dksX6_endsPiece_0 17 rfl rfl)
theorem dX6_endsPiece_18 : decode cX6_endsPiece 18 = .ok (.getfield 155, 3) := dk_180 0 155 (dk_at dksX6_endsPiece_0 18 rfl rfl)
theorem dX6_endsPiece_21 : decode cX6_endsPiece 21 = .ok (.iconst 1, 1) := dk_4 (dk_at dksX6_endsPiece_0 21 rfl rfl)
theorem dX6_endsPiece_22 : decode cX6_endsPiece 22 = .ok (.isub, 1) := dk_100 (dk_at dksX6_endsPiece_0 22 rfl rfl)
theorem dX6_endsPiece_23 : decode cX6_endsPiece 23 = .ok (.putfield 155, 3) := dk_181 0 155 (dk_at dksX6_endsPiece_1 0 rfl rfl)
theorem dX6_endsPiece_26 : decode cX6_endsPiece 26 = .ok (.aload_n 0, 1) := dk_42 (dk_at dksX6_endsPiece_1 3 rfl rfl)
theorem dX6_endsPiece_27 : decode cX6_endsPiece 27 = .ok (.aload_n 0, 1) := dk_42 (dk_at dksX6_endsPiece_1 4 rfl rfl)
theorem dX6_endsPiece_28 : decode cX6_endsPiece 28 = .ok (.getfield 152, 3) := dk_180 0 152 (dk_at dksX6_endsPiece_1 5 rfl rfl)
theorem dX6_endsPiece_31 : decode cX6_endsPiece 31 = .ok (.iconst 1, 1) := dk_4 (dk_at dksX6_endsPiece_1 8 rfl rfl)
theorem dX6_endsPiece_32 : decode cX6_endsPiece 32 = .ok (.isub, 1) := dk_100 (dk_at dksX6_endsPiece_1 9 rfl rfl)
theorem dX6_endsPiece_33 : decode cX6_endsPiece 33 = .ok (.putfield 152, 3) := dk_181 0 152 (dk_at dksX6_endsPiece_1 10 rfl rfl)
theorem dX6_endsPiece_36 : decode cX6_endsPiece 36 = .ok (.goto (-36), 3) := dk_167 255 220 (dk_at dksX6_endsPiece_1 13 rfl rfl)
theorem dX6_endsPiece_39 : decode cX6_endsPiece 39 = .ok (.return_, 1) := dk_177 (dk_at dksX6_endsPiece_1 16 rfl rfl)
abbrev cX6_lands : ByteArray := prog_20_method_33_code
def yX6_lands : MethodName := ⟨RX6, "lands", "(Z)V"⟩
def dkwX6_lands_3 : List UInt8 := [181, 0, 155, 167, 255, 186, 177]
abbrev dktX6_lands_3 : List UInt8 := dkwX6_lands_3 ++ []
def dkwX6_lands_2 : List UInt8 := [180, 0, 29, 28, 46, 18, 151, 108, 104, 42, 180, 0, 148, 96, 79, 42, 42, 180, 0, 155, 4, 100]
abbrev dktX6_lands_2 : List UInt8 := dkwX6_lands_2 ++ dktX6_lands_3
def dkwX6_lands_1 : List UInt8 := [180, 0, 32, 42, 180, 0, 155, 4, 100, 46, 18, 151, 112, 61, 42, 180, 0, 29, 28, 18, 151, 42]
abbrev dktX6_lands_1 : List UInt8 := dkwX6_lands_1 ++ dktX6_lands_2
def dkwX6_lands_0 : List UInt8 := [42, 182, 0, 158, 16, 11, 159, 0, 16, 27, 153, 0, 63, 42, 182, 0, 158, 16, 12, 160, 0, 54, 42]
abbrev dktX6_lands_0 : List UInt8 := dkwX6_lands_0 ++ dktX6_lands_1
theorem dksX6_lands_0 : cX6_lands.data.toList.drop 0 = dktX6_lands_0 := by decide +kernel
theorem dksX6_lands_1 : cX6_lands.data.toList.drop 23 = dktX6_lands_1 := dk_seg dksX6_lands_0 23 rfl rfl
theorem dksX6_lands_2 : cX6_lands.data.toList.drop 45 = dktX6_lands_2 := dk_seg dksX6_lands_1 22 rfl rfl
theorem dksX6_lands_3 : cX6_lands.data.toList.drop 67 = dktX6_lands_3 := dk_seg dksX6_lands_2 22 rfl rfl
theorem dX6_lands_0 : decode cX6_lands 0 = .ok (.aload_n 0, 1) := dk_42 (dk_at dksX6_lands_0 0 rfl rfl)
theorem dX6_lands_1 : decode cX6_lands 1 = .ok (.invokevirtual 158, 3) := dk_182 0 158 (dk_at dksX6_lands_0 1 rfl rfl)
theorem dX6_lands_4 : decode cX6_lands 4 = .ok (.bipush 11, 2) := dk_16 11 (dk_at dksX6_lands_0 4 rfl rfl)
theorem dX6_lands_6 : decode cX6_lands 6 = .ok (.if_icmp .eq 16, 3) := dk_159 0 16 (dk_at dksX6_lands_0 6 rfl rfl)
theorem dX6_lands_9 : decode cX6_lands 9 = .ok (.iload_n 1, 1) := dk_27 (dk_at dksX6_lands_0 9 rfl rfl)
theorem dX6_lands_10 : decode cX6_lands 10 = .ok (.ifCond .eq 63, 3) := dk_153 0 63 (dk_at dksX6_lands_0 10 rfl rfl)
theorem dX6_lands_13 : decode cX6_lands 13 = .ok (.aload_n 0, 1) := dk_42 (dk_at dksX6_lands_0 13 rfl rfl)
theorem dX6_lands_14 : decode cX6_lands 14 = .ok (.invokevirtual 158, 3) := dk_182 0 158 (dk_at dksX6_lands_0 14 rfl rfl)
theorem dX6_lands_17 : decode cX6_lands 17 = .ok (.bipush 12, 2) := dk_16 12 (dk_at dksX6_lands_0 17 rfl rfl)
theorem dX6_lands_19 : decode cX6_lands 19 = .ok (.if_icmp .ne 54, 3) := dk_160 0 54 (dk_at dksX6_lands_0 19 rfl rfl)
theorem dX6_lands_22 : decode cX6_lands 22 = .ok (.aload_n 0, 1) := dk_42 (dk_at dksX6_lands_0 22 rfl rfl)
theorem dX6_lands_23 : decode cX6_lands 23 = .ok (.getfield 32, 3) := dk_180 0 32 (dk_at dksX6_lands_1 0 rfl rfl)
theorem dX6_lands_26 : decode cX6_lands 26 = .ok (.aload_n 0, 1) := dk_42 (dk_at dksX6_lands_1 3 rfl rfl)
theorem dX6_lands_27 : decode cX6_lands 27 = .ok (.getfield 155, 3) := dk_180 0 155 (dk_at dksX6_lands_1 4 rfl rfl)
theorem dX6_lands_30 : decode cX6_lands 30 = .ok (.iconst 1, 1) := dk_4 (dk_at dksX6_lands_1 7 rfl rfl)
theorem dX6_lands_31 : decode cX6_lands 31 = .ok (.isub, 1) := dk_100 (dk_at dksX6_lands_1 8 rfl rfl)
theorem dX6_lands_32 : decode cX6_lands 32 = .ok (.iaload, 1) := dk_46 (dk_at dksX6_lands_1 9 rfl rfl)
theorem dX6_lands_33 : decode cX6_lands 33 = .ok (.ldc 151, 2) := dk_18 151 (dk_at dksX6_lands_1 10 rfl rfl)
theorem dX6_lands_35 : decode cX6_lands 35 = .ok (.irem, 1) := dk_112 (dk_at dksX6_lands_1 12 rfl rfl)
theorem dX6_lands_36 : decode cX6_lands 36 = .ok (.istore_n 2, 1) := dk_61 (dk_at dksX6_lands_1 13 rfl rfl)
theorem dX6_lands_37 : decode cX6_lands 37 = .ok (.aload_n 0, 1) := dk_42 (dk_at dksX6_lands_1 14 rfl rfl)
theorem dX6_lands_38 : decode cX6_lands 38 = .ok (.getfield 29, 3) := dk_180 0 29 (dk_at dksX6_lands_1 15 rfl rfl)
theorem dX6_lands_41 : decode cX6_lands 41 = .ok (.iload_n 2, 1) := dk_28 (dk_at dksX6_lands_1 18 rfl rfl)
theorem dX6_lands_42 : decode cX6_lands 42 = .ok (.ldc 151, 2) := dk_18 151 (dk_at dksX6_lands_1 19 rfl rfl)
theorem dX6_lands_44 : decode cX6_lands 44 = .ok (.aload_n 0, 1) := dk_42 (dk_at dksX6_lands_1 21 rfl rfl)
theorem dX6_lands_45 : decode cX6_lands 45 = .ok (.getfield 29, 3) := dk_180 0 29 (dk_at dksX6_lands_2 0 rfl rfl)
theorem dX6_lands_48 : decode cX6_lands 48 = .ok (.iload_n 2, 1) := dk_28 (dk_at dksX6_lands_2 3 rfl rfl)
theorem dX6_lands_49 : decode cX6_lands 49 = .ok (.iaload, 1) := dk_46 (dk_at dksX6_lands_2 4 rfl rfl)
theorem dX6_lands_50 : decode cX6_lands 50 = .ok (.ldc 151, 2) := dk_18 151 (dk_at dksX6_lands_2 5 rfl rfl)
theorem dX6_lands_52 : decode cX6_lands 52 = .ok (.idiv, 1) := dk_108 (dk_at dksX6_lands_2 7 rfl rfl)
theorem dX6_lands_53 : decode cX6_lands 53 = .ok (.imul, 1) := dk_104 (dk_at dksX6_lands_2 8 rfl rfl)
theorem dX6_lands_54 : decode cX6_lands 54 = .ok (.aload_n 0, 1) := dk_42 (dk_at dksX6_lands_2 9 rfl rfl)
theorem dX6_lands_55 : decode cX6_lands 55 = .ok (.getfield 148, 3) := dk_180 0 148 (dk_at dksX6_lands_2 10 rfl rfl)
theorem dX6_lands_58 : decode cX6_lands 58 = .ok (.iadd, 1) := dk_96 (dk_at dksX6_lands_2 13 rfl rfl)
theorem dX6_lands_59 : decode cX6_lands 59 = .ok (.iastore, 1) := dk_79 (dk_at dksX6_lands_2 14 rfl rfl)
theorem dX6_lands_60 : decode cX6_lands 60 = .ok (.aload_n 0, 1) := dk_42 (dk_at dksX6_lands_2 15 rfl rfl)
theorem dX6_lands_61 : decode cX6_lands 61 = .ok (.aload_n 0, 1) := dk_42 (dk_at dksX6_lands_2 16 rfl rfl)
theorem dX6_lands_62 : decode cX6_lands 62 = .ok (.getfield 155, 3) := dk_180 0 155 (dk_at dksX6_lands_2 17 rfl rfl)
theorem dX6_lands_65 : decode cX6_lands 65 = .ok (.iconst 1, 1) := dk_4 (dk_at dksX6_lands_2 20 rfl rfl)
theorem dX6_lands_66 : decode cX6_lands 66 = .ok (.isub, 1) := dk_100 (dk_at dksX6_lands_2 21 rfl rfl)
theorem dX6_lands_67 : decode cX6_lands 67 = .ok (.putfield 155, 3) := dk_181 0 155 (dk_at dksX6_lands_3 0 rfl rfl)
theorem dX6_lands_70 : decode cX6_lands 70 = .ok (.goto (-70), 3) := dk_167 255 186 (dk_at dksX6_lands_3 3 rfl rfl)
theorem dX6_lands_73 : decode cX6_lands 73 = .ok (.return_, 1) := dk_177 (dk_at dksX6_lands_3 6 rfl rfl)
abbrev cX6_jumps : ByteArray := prog_20_method_34_code
def yX6_jumps : MethodName := ⟨RX6, "jumps", "(I)V"⟩
def dkwX6_jumps_1 : List UInt8 := [96, 181, 0, 155, 42, 27, 3, 182, 0, 161, 42, 42, 180, 0, 125, 4, 96, 181, 0, 125, 177]
abbrev dktX6_jumps_1 : List UInt8 := dkwX6_jumps_1 ++ []
def dkwX6_jumps_0 : List UInt8 := [42, 180, 0, 32, 42, 180, 0, 155, 18, 151, 27, 104, 42, 180, 0, 148, 96, 79, 42, 42, 180, 0, 155, 4]
abbrev dktX6_jumps_0 : List UInt8 := dkwX6_jumps_0 ++ dktX6_jumps_1
theorem dksX6_jumps_0 : cX6_jumps.data.toList.drop 0 = dktX6_jumps_0 := by decide +kernel
theorem dksX6_jumps_1 : cX6_jumps.data.toList.drop 24 = dktX6_jumps_1 := dk_seg dksX6_jumps_0 24 rfl rfl
theorem dX6_jumps_0 : decode cX6_jumps 0 = .ok (.aload_n 0, 1) := dk_42 (dk_at dksX6_jumps_0 0 rfl rfl)
theorem dX6_jumps_1 : decode cX6_jumps 1 = .ok (.getfield 32, 3) := dk_180 0 32 (dk_at dksX6_jumps_0 1 rfl rfl)
theorem dX6_jumps_4 : decode cX6_jumps 4 = .ok (.aload_n 0, 1) := dk_42 (dk_at dksX6_jumps_0 4 rfl rfl)
theorem dX6_jumps_5 : decode cX6_jumps 5 = .ok (.getfield 155, 3) := dk_180 0 155 (dk_at dksX6_jumps_0 5 rfl rfl)
theorem dX6_jumps_8 : decode cX6_jumps 8 = .ok (.ldc 151, 2) := dk_18 151 (dk_at dksX6_jumps_0 8 rfl rfl)
theorem dX6_jumps_10 : decode cX6_jumps 10 = .ok (.iload_n 1, 1) := dk_27 (dk_at dksX6_jumps_0 10 rfl rfl)
theorem dX6_jumps_11 : decode cX6_jumps 11 = .ok (.imul, 1) := dk_104 (dk_at dksX6_jumps_0 11 rfl rfl)
theorem dX6_jumps_12 : decode cX6_jumps 12 = .ok (.aload_n 0, 1) := dk_42 (dk_at dksX6_jumps_0 12 rfl rfl)
theorem dX6_jumps_13 : decode cX6_jumps 13 = .ok (.getfield 148, 3) := dk_180 0 148 (dk_at dksX6_jumps_0 13 rfl rfl)
theorem dX6_jumps_16 : decode cX6_jumps 16 = .ok (.iadd, 1) := dk_96 (dk_at dksX6_jumps_0 16 rfl rfl)
theorem dX6_jumps_17 : decode cX6_jumps 17 = .ok (.iastore, 1) := dk_79 (dk_at dksX6_jumps_0 17 rfl rfl)
theorem dX6_jumps_18 : decode cX6_jumps 18 = .ok (.aload_n 0, 1) := dk_42 (dk_at dksX6_jumps_0 18 rfl rfl)
theorem dX6_jumps_19 : decode cX6_jumps 19 = .ok (.aload_n 0, 1) := dk_42 (dk_at dksX6_jumps_0 19 rfl rfl)
theorem dX6_jumps_20 : decode cX6_jumps 20 = .ok (.getfield 155, 3) := dk_180 0 155 (dk_at dksX6_jumps_0 20 rfl rfl)
theorem dX6_jumps_23 : decode cX6_jumps 23 = .ok (.iconst 1, 1) := dk_4 (dk_at dksX6_jumps_0 23 rfl rfl)
theorem dX6_jumps_24 : decode cX6_jumps 24 = .ok (.iadd, 1) := dk_96 (dk_at dksX6_jumps_1 0 rfl rfl)
theorem dX6_jumps_25 : decode cX6_jumps 25 = .ok (.putfield 155, 3) := dk_181 0 155 (dk_at dksX6_jumps_1 1 rfl rfl)
theorem dX6_jumps_28 : decode cX6_jumps 28 = .ok (.aload_n 0, 1) := dk_42 (dk_at dksX6_jumps_1 4 rfl rfl)
theorem dX6_jumps_29 : decode cX6_jumps 29 = .ok (.iload_n 1, 1) := dk_27 (dk_at dksX6_jumps_1 5 rfl rfl)
theorem dX6_jumps_30 : decode cX6_jumps 30 = .ok (.iconst 0, 1) := dk_3 (dk_at dksX6_jumps_1 6 rfl rfl)
theorem dX6_jumps_31 : decode cX6_jumps 31 = .ok (.invokevirtual 161, 3) := dk_182 0 161 (dk_at dksX6_jumps_1 7 rfl rfl)
theorem dX6_jumps_34 : decode cX6_jumps 34 = .ok (.aload_n 0, 1) := dk_42 (dk_at dksX6_jumps_1 10 rfl rfl)
theorem dX6_jumps_35 : decode cX6_jumps 35 = .ok (.aload_n 0, 1) := dk_42 (dk_at dksX6_jumps_1 11 rfl rfl)
theorem dX6_jumps_36 : decode cX6_jumps 36 = .ok (.getfield 125, 3) := dk_180 0 125 (dk_at dksX6_jumps_1 12 rfl rfl)
theorem dX6_jumps_39 : decode cX6_jumps 39 = .ok (.iconst 1, 1) := dk_4 (dk_at dksX6_jumps_1 15 rfl rfl)
theorem dX6_jumps_40 : decode cX6_jumps 40 = .ok (.iadd, 1) := dk_96 (dk_at dksX6_jumps_1 16 rfl rfl)
theorem dX6_jumps_41 : decode cX6_jumps 41 = .ok (.putfield 125, 3) := dk_181 0 125 (dk_at dksX6_jumps_1 17 rfl rfl)
theorem dX6_jumps_44 : decode cX6_jumps 44 = .ok (.return_, 1) := dk_177 (dk_at dksX6_jumps_1 20 rfl rfl)
abbrev cX6_takes : ByteArray := prog_20_method_21_code
def yX6_takes : MethodName := ⟨RX6, "takes", "(I)Z"⟩
def dkwX6_takes_1 : List UInt8 := [96, 181, 0, 125, 4, 172]
abbrev dktX6_takes_1 : List UInt8 := dkwX6_takes_1 ++ []
def dkwX6_takes_0 : List UInt8 := [42, 182, 0, 131, 27, 159, 0, 13, 42, 4, 42, 180, 0, 125, 182, 0, 138, 172, 42, 42, 180, 0, 125, 4]
abbrev dktX6_takes_0 : List UInt8 := dkwX6_takes_0 ++ dktX6_takes_1
theorem dksX6_takes_0 : cX6_takes.data.toList.drop 0 = dktX6_takes_0 := by decide +kernel
theorem dksX6_takes_1 : cX6_takes.data.toList.drop 24 = dktX6_takes_1 := dk_seg dksX6_takes_0 24 rfl rfl
theorem dX6_takes_0 : decode cX6_takes 0 = .ok (.aload_n 0, 1) := dk_42 (dk_at dksX6_takes_0 0 rfl rfl)
theorem dX6_takes_1 : decode cX6_takes 1 = .ok (.invokevirtual 131, 3) := dk_182 0 131 (dk_at dksX6_takes_0 1 rfl rfl)
theorem dX6_takes_4 : decode cX6_takes 4 = .ok (.iload_n 1, 1) := dk_27 (dk_at dksX6_takes_0 4 rfl rfl)
theorem dX6_takes_5 : decode cX6_takes 5 = .ok (.if_icmp .eq 13, 3) := dk_159 0 13 (dk_at dksX6_takes_0 5 rfl rfl)
theorem dX6_takes_8 : decode cX6_takes 8 = .ok (.aload_n 0, 1) := dk_42 (dk_at dksX6_takes_0 8 rfl rfl)
theorem dX6_takes_9 : decode cX6_takes 9 = .ok (.iconst 1, 1) := dk_4 (dk_at dksX6_takes_0 9 rfl rfl)
theorem dX6_takes_10 : decode cX6_takes 10 = .ok (.aload_n 0, 1) := dk_42 (dk_at dksX6_takes_0 10 rfl rfl)
theorem dX6_takes_11 : decode cX6_takes 11 = .ok (.getfield 125, 3) := dk_180 0 125 (dk_at dksX6_takes_0 11 rfl rfl)
theorem dX6_takes_14 : decode cX6_takes 14 = .ok (.invokevirtual 138, 3) := dk_182 0 138 (dk_at dksX6_takes_0 14 rfl rfl)
theorem dX6_takes_17 : decode cX6_takes 17 = .ok (.ireturn, 1) := dk_172 (dk_at dksX6_takes_0 17 rfl rfl)
theorem dX6_takes_18 : decode cX6_takes 18 = .ok (.aload_n 0, 1) := dk_42 (dk_at dksX6_takes_0 18 rfl rfl)
theorem dX6_takes_19 : decode cX6_takes 19 = .ok (.aload_n 0, 1) := dk_42 (dk_at dksX6_takes_0 19 rfl rfl)
theorem dX6_takes_20 : decode cX6_takes 20 = .ok (.getfield 125, 3) := dk_180 0 125 (dk_at dksX6_takes_0 20 rfl rfl)
theorem dX6_takes_23 : decode cX6_takes 23 = .ok (.iconst 1, 1) := dk_4 (dk_at dksX6_takes_0 23 rfl rfl)
theorem dX6_takes_24 : decode cX6_takes 24 = .ok (.iadd, 1) := dk_96 (dk_at dksX6_takes_1 0 rfl rfl)
theorem dX6_takes_25 : decode cX6_takes 25 = .ok (.putfield 125, 3) := dk_181 0 125 (dk_at dksX6_takes_1 1 rfl rfl)
theorem dX6_takes_28 : decode cX6_takes 28 = .ok (.iconst 1, 1) := dk_4 (dk_at dksX6_takes_1 4 rfl rfl)
theorem dX6_takes_29 : decode cX6_takes 29 = .ok (.ireturn, 1) := dk_172 (dk_at dksX6_takes_1 5 rfl rfl)
abbrev cX6_town : ByteArray := prog_20_method_47_code
def yX6_town : MethodName := ⟨RX6, "town", "(I)I"⟩
def dkwX6_town_6 : List UInt8 := [21, 5, 182, 0, 241, 153, 0, 9, 21, 4, 4, 96, 54, 4, 132, 5, 1, 167, 255, 211, 21, 4, 172]
abbrev dktX6_town_6 : List UInt8 := dkwX6_town_6 ++ []
def dkwX6_town_5 : List UInt8 := [162, 0, 44, 42, 180, 0, 19, 21, 5, 42, 180, 0, 68, 21, 5, 46, 79, 42, 21, 5, 182, 0, 238, 42]
abbrev dktX6_town_5 : List UInt8 := dkwX6_town_5 ++ dktX6_town_6
def dkwX6_town_4 : List UInt8 := [181, 0, 117, 29, 154, 0, 8, 42, 180, 0, 135, 172, 3, 54, 4, 3, 54, 5, 21, 5, 16, 96]
abbrev dktX6_town_4 : List UInt8 := dkwX6_town_4 ++ dktX6_town_5
def dkwX6_town_3 : List UInt8 := [42, 180, 0, 125, 4, 96, 181, 0, 125, 42, 28, 182, 0, 235, 62, 28, 4, 96, 61, 167, 255, 221, 42, 3]
abbrev dktX6_town_3 : List UInt8 := dkwX6_town_3 ++ dktX6_town_4
def dkwX6_town_2 : List UInt8 := [4, 61, 42, 3, 182, 0, 235, 62, 29, 153, 0, 37, 42, 180, 0, 125, 42, 180, 0, 128, 162, 0, 26, 42]
abbrev dktX6_town_2 : List UInt8 := dkwX6_town_2 ++ dktX6_town_3
def dkwX6_town_1 : List UInt8 := [182, 0, 209, 3, 61, 28, 16, 96, 162, 0, 16, 42, 180, 0, 68, 28, 3, 79, 132, 2, 1, 167, 255, 240]
abbrev dktX6_town_1 : List UInt8 := dkwX6_town_1 ++ dktX6_town_2
def dkwX6_town_0 : List UInt8 := [27, 4, 16, 120, 184, 0, 102, 153, 0, 11, 27, 42, 180, 0, 117, 164, 0, 5, 2, 172, 42, 27]
abbrev dktX6_town_0 : List UInt8 := dkwX6_town_0 ++ dktX6_town_1
theorem dksX6_town_0 : cX6_town.data.toList.drop 0 = dktX6_town_0 := by decide +kernel
theorem dksX6_town_1 : cX6_town.data.toList.drop 22 = dktX6_town_1 := dk_seg dksX6_town_0 22 rfl rfl
theorem dksX6_town_2 : cX6_town.data.toList.drop 46 = dktX6_town_2 := dk_seg dksX6_town_1 24 rfl rfl
theorem dksX6_town_3 : cX6_town.data.toList.drop 70 = dktX6_town_3 := dk_seg dksX6_town_2 24 rfl rfl
theorem dksX6_town_4 : cX6_town.data.toList.drop 94 = dktX6_town_4 := dk_seg dksX6_town_3 24 rfl rfl
theorem dksX6_town_5 : cX6_town.data.toList.drop 116 = dktX6_town_5 := dk_seg dksX6_town_4 22 rfl rfl
theorem dksX6_town_6 : cX6_town.data.toList.drop 140 = dktX6_town_6 := dk_seg dksX6_town_5 24 rfl rfl
theorem dX6_town_0 : decode cX6_town 0 = .ok (.iload_n 1, 1) := dk_27 (dk_at dksX6_town_0 0 rfl rfl)
theorem dX6_town_1 : decode cX6_town 1 = .ok (.iconst 1, 1) := dk_4 (dk_at dksX6_town_0 1 rfl rfl)
theorem dX6_town_2 : decode cX6_town 2 = .ok (.bipush 120, 2) := dk_16 120 (dk_at dksX6_town_0 2 rfl rfl)
theorem dX6_town_4 : decode cX6_town 4 = .ok (.invokestatic 102, 3) := dk_184 0 102 (dk_at dksX6_town_0 4 rfl rfl)
theorem dX6_town_7 : decode cX6_town 7 = .ok (.ifCond .eq 11, 3) := dk_153 0 11 (dk_at dksX6_town_0 7 rfl rfl)
theorem dX6_town_10 : decode cX6_town 10 = .ok (.iload_n 1, 1) := dk_27 (dk_at dksX6_town_0 10 rfl rfl)
theorem dX6_town_11 : decode cX6_town 11 = .ok (.aload_n 0, 1) := dk_42 (dk_at dksX6_town_0 11 rfl rfl)
theorem dX6_town_12 : decode cX6_town 12 = .ok (.getfield 117, 3) := dk_180 0 117 (dk_at dksX6_town_0 12 rfl rfl)
theorem dX6_town_15 : decode cX6_town 15 = .ok (.if_icmp .le 5, 3) := dk_164 0 5 (dk_at dksX6_town_0 15 rfl rfl)
theorem dX6_town_18 : decode cX6_town 18 = .ok (.iconst (-1), 1) := dk_2 (dk_at dksX6_town_0 18 rfl rfl)
theorem dX6_town_19 : decode cX6_town 19 = .ok (.ireturn, 1) := dk_172 (dk_at dksX6_town_0 19 rfl rfl)
theorem dX6_town_20 : decode cX6_town 20 = .ok (.aload_n 0, 1) := dk_42 (dk_at dksX6_town_0 20 rfl rfl)
theorem dX6_town_21 : decode cX6_town 21 = .ok (.iload_n 1, 1) := dk_27 (dk_at dksX6_town_0 21 rfl rfl)
theorem dX6_town_22 : decode cX6_town 22 = .ok (.invokevirtual 209, 3) := dk_182 0 209 (dk_at dksX6_town_1 0 rfl rfl)
theorem dX6_town_25 : decode cX6_town 25 = .ok (.iconst 0, 1) := dk_3 (dk_at dksX6_town_1 3 rfl rfl)
theorem dX6_town_26 : decode cX6_town 26 = .ok (.istore_n 2, 1) := dk_61 (dk_at dksX6_town_1 4 rfl rfl)
theorem dX6_town_27 : decode cX6_town 27 = .ok (.iload_n 2, 1) := dk_28 (dk_at dksX6_town_1 5 rfl rfl)
theorem dX6_town_28 : decode cX6_town 28 = .ok (.bipush 96, 2) := dk_16 96 (dk_at dksX6_town_1 6 rfl rfl)
theorem dX6_town_30 : decode cX6_town 30 = .ok (.if_icmp .ge 16, 3) := dk_162 0 16 (dk_at dksX6_town_1 8 rfl rfl)
theorem dX6_town_33 : decode cX6_town 33 = .ok (.aload_n 0, 1) := dk_42 (dk_at dksX6_town_1 11 rfl rfl)
theorem dX6_town_34 : decode cX6_town 34 = .ok (.getfield 68, 3) := dk_180 0 68 (dk_at dksX6_town_1 12 rfl rfl)
theorem dX6_town_37 : decode cX6_town 37 = .ok (.iload_n 2, 1) := dk_28 (dk_at dksX6_town_1 15 rfl rfl)
theorem dX6_town_38 : decode cX6_town 38 = .ok (.iconst 0, 1) := dk_3 (dk_at dksX6_town_1 16 rfl rfl)
theorem dX6_town_39 : decode cX6_town 39 = .ok (.iastore, 1) := dk_79 (dk_at dksX6_town_1 17 rfl rfl)
theorem dX6_town_40 : decode cX6_town 40 = .ok (.iinc 2 1, 3) := dk_132 2 1 (dk_at dksX6_town_1 18 rfl rfl)
theorem dX6_town_43 : decode cX6_town 43 = .ok (.goto (-16), 3) := dk_167 255 240 (dk_at dksX6_town_1 21 rfl rfl)
theorem dX6_town_46 : decode cX6_town 46 = .ok (.iconst 1, 1) := dk_4 (dk_at dksX6_town_2 0 rfl rfl)
theorem dX6_town_47 : decode cX6_town 47 = .ok (.istore_n 2, 1) := dk_61 (dk_at dksX6_town_2 1 rfl rfl)
theorem dX6_town_48 : decode cX6_town 48 = .ok (.aload_n 0, 1) := dk_42 (dk_at dksX6_town_2 2 rfl rfl)
theorem dX6_town_49 : decode cX6_town 49 = .ok (.iconst 0, 1) := dk_3 (dk_at dksX6_town_2 3 rfl rfl)
theorem dX6_town_50 : decode cX6_town 50 = .ok (.invokevirtual 235, 3) := dk_182 0 235 (dk_at dksX6_town_2 4 rfl rfl)
theorem dX6_town_53 : decode cX6_town 53 = .ok (.istore_n 3, 1) := dk_62 (dk_at dksX6_town_2 7 rfl rfl)
theorem dX6_town_54 : decode cX6_town 54 = .ok (.iload_n 3, 1) := dk_29 (dk_at dksX6_town_2 8 rfl rfl)
theorem dX6_town_55 : decode cX6_town 55 = .ok (.ifCond .eq 37, 3) := dk_153 0 37 (dk_at dksX6_town_2 9 rfl rfl)
theorem dX6_town_58 : decode cX6_town 58 = .ok (.aload_n 0, 1) := dk_42 (dk_at dksX6_town_2 12 rfl rfl)
theorem dX6_town_59 : decode cX6_town 59 = .ok (.getfield 125, 3) := dk_180 0 125 (dk_at dksX6_town_2 13 rfl rfl)
theorem dX6_town_62 : decode cX6_town 62 = .ok (.aload_n 0, 1) := dk_42 (dk_at dksX6_town_2 16 rfl rfl)
theorem dX6_town_63 : decode cX6_town 63 = .ok (.getfield 128, 3) := dk_180 0 128 (dk_at dksX6_town_2 17 rfl rfl)
theorem dX6_town_66 : decode cX6_town 66 = .ok (.if_icmp .ge 26, 3) := dk_162 0 26 (dk_at dksX6_town_2 20 rfl rfl)
theorem dX6_town_69 : decode cX6_town 69 = .ok (.aload_n 0, 1) := dk_42 (dk_at dksX6_town_2 23 rfl rfl)
theorem dX6_town_70 : decode cX6_town 70 = .ok (.aload_n 0, 1) := dk_42 (dk_at dksX6_town_3 0 rfl rfl)
theorem dX6_town_71 : decode cX6_town 71 = .ok (.getfield 125, 3) := dk_180 0 125 (dk_at dksX6_town_3 1 rfl rfl)
theorem dX6_town_74 : decode cX6_town 74 = .ok (.iconst 1, 1) := dk_4 (dk_at dksX6_town_3 4 rfl rfl)
theorem dX6_town_75 : decode cX6_town 75 = .ok (.iadd, 1) := dk_96 (dk_at dksX6_town_3 5 rfl rfl)
theorem dX6_town_76 : decode cX6_town 76 = .ok (.putfield 125, 3) := dk_181 0 125 (dk_at dksX6_town_3 6 rfl rfl)
theorem dX6_town_79 : decode cX6_town 79 = .ok (.aload_n 0, 1) := dk_42 (dk_at dksX6_town_3 9 rfl rfl)
theorem dX6_town_80 : decode cX6_town 80 = .ok (.iload_n 2, 1) := dk_28 (dk_at dksX6_town_3 10 rfl rfl)
theorem dX6_town_81 : decode cX6_town 81 = .ok (.invokevirtual 235, 3) := dk_182 0 235 (dk_at dksX6_town_3 11 rfl rfl)
theorem dX6_town_84 : decode cX6_town 84 = .ok (.istore_n 3, 1) := dk_62 (dk_at dksX6_town_3 14 rfl rfl)
theorem dX6_town_85 : decode cX6_town 85 = .ok (.iload_n 2, 1) := dk_28 (dk_at dksX6_town_3 15 rfl rfl)
theorem dX6_town_86 : decode cX6_town 86 = .ok (.iconst 1, 1) := dk_4 (dk_at dksX6_town_3 16 rfl rfl)
theorem dX6_town_87 : decode cX6_town 87 = .ok (.iadd, 1) := dk_96 (dk_at dksX6_town_3 17 rfl rfl)
theorem dX6_town_88 : decode cX6_town 88 = .ok (.istore_n 2, 1) := dk_61 (dk_at dksX6_town_3 18 rfl rfl)
theorem dX6_town_89 : decode cX6_town 89 = .ok (.goto (-35), 3) := dk_167 255 221 (dk_at dksX6_town_3 19 rfl rfl)
theorem dX6_town_92 : decode cX6_town 92 = .ok (.aload_n 0, 1) := dk_42 (dk_at dksX6_town_3 22 rfl rfl)
theorem dX6_town_93 : decode cX6_town 93 = .ok (.iconst 0, 1) := dk_3 (dk_at dksX6_town_3 23 rfl rfl)
theorem dX6_town_94 : decode cX6_town 94 = .ok (.putfield 117, 3) := dk_181 0 117 (dk_at dksX6_town_4 0 rfl rfl)
theorem dX6_town_97 : decode cX6_town 97 = .ok (.iload_n 3, 1) := dk_29 (dk_at dksX6_town_4 3 rfl rfl)
theorem dX6_town_98 : decode cX6_town 98 = .ok (.ifCond .ne 8, 3) := dk_154 0 8 (dk_at dksX6_town_4 4 rfl rfl)
theorem dX6_town_101 : decode cX6_town 101 = .ok (.aload_n 0, 1) := dk_42 (dk_at dksX6_town_4 7 rfl rfl)
theorem dX6_town_102 : decode cX6_town 102 = .ok (.getfield 135, 3) := dk_180 0 135 (dk_at dksX6_town_4 8 rfl rfl)
theorem dX6_town_105 : decode cX6_town 105 = .ok (.ireturn, 1) := dk_172 (dk_at dksX6_town_4 11 rfl rfl)
theorem dX6_town_106 : decode cX6_town 106 = .ok (.iconst 0, 1) := dk_3 (dk_at dksX6_town_4 12 rfl rfl)
theorem dX6_town_107 : decode cX6_town 107 = .ok (.istore 4, 2) := dk_54 4 (dk_at dksX6_town_4 13 rfl rfl)
theorem dX6_town_109 : decode cX6_town 109 = .ok (.iconst 0, 1) := dk_3 (dk_at dksX6_town_4 15 rfl rfl)
theorem dX6_town_110 : decode cX6_town 110 = .ok (.istore 5, 2) := dk_54 5 (dk_at dksX6_town_4 16 rfl rfl)
theorem dX6_town_112 : decode cX6_town 112 = .ok (.iload 5, 2) := dk_21 5 (dk_at dksX6_town_4 18 rfl rfl)
theorem dX6_town_114 : decode cX6_town 114 = .ok (.bipush 96, 2) := dk_16 96 (dk_at dksX6_town_4 20 rfl rfl)
theorem dX6_town_116 : decode cX6_town 116 = .ok (.if_icmp .ge 44, 3) := dk_162 0 44 (dk_at dksX6_town_5 0 rfl rfl)
theorem dX6_town_119 : decode cX6_town 119 = .ok (.aload_n 0, 1) := dk_42 (dk_at dksX6_town_5 3 rfl rfl)
theorem dX6_town_120 : decode cX6_town 120 = .ok (.getfield 19, 3) := dk_180 0 19 (dk_at dksX6_town_5 4 rfl rfl)
theorem dX6_town_123 : decode cX6_town 123 = .ok (.iload 5, 2) := dk_21 5 (dk_at dksX6_town_5 7 rfl rfl)
theorem dX6_town_125 : decode cX6_town 125 = .ok (.aload_n 0, 1) := dk_42 (dk_at dksX6_town_5 9 rfl rfl)
theorem dX6_town_126 : decode cX6_town 126 = .ok (.getfield 68, 3) := dk_180 0 68 (dk_at dksX6_town_5 10 rfl rfl)
theorem dX6_town_129 : decode cX6_town 129 = .ok (.iload 5, 2) := dk_21 5 (dk_at dksX6_town_5 13 rfl rfl)
theorem dX6_town_131 : decode cX6_town 131 = .ok (.iaload, 1) := dk_46 (dk_at dksX6_town_5 15 rfl rfl)
theorem dX6_town_132 : decode cX6_town 132 = .ok (.iastore, 1) := dk_79 (dk_at dksX6_town_5 16 rfl rfl)
theorem dX6_town_133 : decode cX6_town 133 = .ok (.aload_n 0, 1) := dk_42 (dk_at dksX6_town_5 17 rfl rfl)
theorem dX6_town_134 : decode cX6_town 134 = .ok (.iload 5, 2) := dk_21 5 (dk_at dksX6_town_5 18 rfl rfl)
theorem dX6_town_136 : decode cX6_town 136 = .ok (.invokevirtual 238, 3) := dk_182 0 238 (dk_at dksX6_town_5 20 rfl rfl)
theorem dX6_town_139 : decode cX6_town 139 = .ok (.aload_n 0, 1) := dk_42 (dk_at dksX6_town_5 23 rfl rfl)
theorem dX6_town_140 : decode cX6_town 140 = .ok (.iload 5, 2) := dk_21 5 (dk_at dksX6_town_6 0 rfl rfl)
theorem dX6_town_142 : decode cX6_town 142 = .ok (.invokevirtual 241, 3) := dk_182 0 241 (dk_at dksX6_town_6 2 rfl rfl)
theorem dX6_town_145 : decode cX6_town 145 = .ok (.ifCond .eq 9, 3) := dk_153 0 9 (dk_at dksX6_town_6 5 rfl rfl)
theorem dX6_town_148 : decode cX6_town 148 = .ok (.iload 4, 2) := dk_21 4 (dk_at dksX6_town_6 8 rfl rfl)
theorem dX6_town_150 : decode cX6_town 150 = .ok (.iconst 1, 1) := dk_4 (dk_at dksX6_town_6 10 rfl rfl)
theorem dX6_town_151 : decode cX6_town 151 = .ok (.iadd, 1) := dk_96 (dk_at dksX6_town_6 11 rfl rfl)
theorem dX6_town_152 : decode cX6_town 152 = .ok (.istore 4, 2) := dk_54 4 (dk_at dksX6_town_6 12 rfl rfl)
theorem dX6_town_154 : decode cX6_town 154 = .ok (.iinc 5 1, 3) := dk_132 5 1 (dk_at dksX6_town_6 14 rfl rfl)
theorem dX6_town_157 : decode cX6_town 157 = .ok (.goto (-45), 3) := dk_167 255 211 (dk_at dksX6_town_6 17 rfl rfl)
theorem dX6_town_160 : decode cX6_town 160 = .ok (.iload 4, 2) := dk_21 4 (dk_at dksX6_town_6 20 rfl rfl)
theorem dX6_town_162 : decode cX6_town 162 = .ok (.ireturn, 1) := dk_172 (dk_at dksX6_town_6 22 rfl rfl)
abbrev cX6_readsRow : ByteArray := prog_20_method_46_code
def yX6_readsRow : MethodName := ⟨RX6, "readsRow", "(I)Z"⟩
def dkwX6_readsRow_8 : List UInt8 := [62, 167, 255, 94, 4, 172]
abbrev dktX6_readsRow_8 : List UInt8 := dkwX6_readsRow_8 ++ []
def dkwX6_readsRow_7 : List UInt8 := [180, 0, 125, 42, 180, 0, 128, 162, 0, 16, 42, 182, 0, 131, 16, 47, 159, 0, 7, 4, 167, 0, 4, 3]
abbrev dktX6_readsRow_7 : List UInt8 := dkwX6_readsRow_7 ++ dktX6_readsRow_8
def dkwX6_readsRow_6 : List UInt8 := [27, 104, 28, 96, 21, 7, 96, 21, 6, 79, 132, 7, 1, 167, 255, 230, 28, 21, 5, 96, 61, 42]
abbrev dktX6_readsRow_6 : List UInt8 := dkwX6_readsRow_6 ++ dktX6_readsRow_7
def dkwX6_readsRow_5 : List UInt8 := [180, 0, 125, 4, 96, 181, 0, 125, 3, 54, 7, 21, 7, 21, 5, 162, 0, 25, 42, 180, 0, 68, 16, 12]
abbrev dktX6_readsRow_5 : List UInt8 := dkwX6_readsRow_5 ++ dktX6_readsRow_6
def dkwX6_readsRow_4 : List UInt8 := [182, 0, 138, 172, 28, 21, 5, 96, 16, 12, 164, 0, 12, 42, 16, 6, 21, 4, 182, 0, 138, 172, 42, 42]
abbrev dktX6_readsRow_4 : List UInt8 := dkwX6_readsRow_4 ++ dktX6_readsRow_5
def dkwX6_readsRow_3 : List UInt8 := [181, 0, 125, 42, 182, 0, 131, 184, 0, 229, 54, 6, 21, 6, 2, 160, 0, 13, 42, 4, 42, 180, 0, 125]
abbrev dktX6_readsRow_3 : List UInt8 := dkwX6_readsRow_3 ++ dktX6_readsRow_4
def dkwX6_readsRow_2 : List UInt8 := [184, 0, 102, 153, 0, 22, 42, 182, 0, 131, 16, 48, 100, 54, 5, 42, 42, 180, 0, 125, 4, 96]
abbrev dktX6_readsRow_2 : List UInt8 := dkwX6_readsRow_2 ++ dktX6_readsRow_3
def dkwX6_readsRow_1 : List UInt8 := [61, 4, 62, 29, 153, 0, 164, 42, 180, 0, 125, 54, 4, 4, 54, 5, 42, 182, 0, 131, 16, 50, 16, 57]
abbrev dktX6_readsRow_1 : List UInt8 := dkwX6_readsRow_1 ++ dktX6_readsRow_2
def dkwX6_readsRow_0 : List UInt8 := [27, 16, 8, 160, 0, 20, 42, 182, 0, 232, 153, 0, 13, 42, 7, 42, 180, 0, 125, 182, 0, 138, 172, 3]
abbrev dktX6_readsRow_0 : List UInt8 := dkwX6_readsRow_0 ++ dktX6_readsRow_1
theorem dksX6_readsRow_0 : cX6_readsRow.data.toList.drop 0 = dktX6_readsRow_0 := by decide +kernel
theorem dksX6_readsRow_1 : cX6_readsRow.data.toList.drop 24 = dktX6_readsRow_1 := dk_seg dksX6_readsRow_0 24 rfl rfl
theorem dksX6_readsRow_2 : cX6_readsRow.data.toList.drop 48 = dktX6_readsRow_2 := dk_seg dksX6_readsRow_1 24 rfl rfl
theorem dksX6_readsRow_3 : cX6_readsRow.data.toList.drop 70 = dktX6_readsRow_3 := dk_seg dksX6_readsRow_2 22 rfl rfl
theorem dksX6_readsRow_4 : cX6_readsRow.data.toList.drop 94 = dktX6_readsRow_4 := dk_seg dksX6_readsRow_3 24 rfl rfl
theorem dksX6_readsRow_5 : cX6_readsRow.data.toList.drop 118 = dktX6_readsRow_5 := dk_seg dksX6_readsRow_4 24 rfl rfl
theorem dksX6_readsRow_6 : cX6_readsRow.data.toList.drop 142 = dktX6_readsRow_6 := dk_seg dksX6_readsRow_5 24 rfl rfl
theorem dksX6_readsRow_7 : cX6_readsRow.data.toList.drop 164 = dktX6_readsRow_7 := dk_seg dksX6_readsRow_6 22 rfl rfl
theorem dksX6_readsRow_8 : cX6_readsRow.data.toList.drop 188 = dktX6_readsRow_8 := dk_seg dksX6_readsRow_7 24 rfl rfl
theorem dX6_readsRow_0 : decode cX6_readsRow 0 = .ok (.iload_n 1, 1) := dk_27 (dk_at dksX6_readsRow_0 0 rfl rfl)
theorem dX6_readsRow_1 : decode cX6_readsRow 1 = .ok (.bipush 8, 2) := dk_16 8 (dk_at dksX6_readsRow_0 1 rfl rfl)
theorem dX6_readsRow_3 : decode cX6_readsRow 3 = .ok (.if_icmp .ne 20, 3) := dk_160 0 20 (dk_at dksX6_readsRow_0 3 rfl rfl)
theorem dX6_readsRow_6 : decode cX6_readsRow 6 = .ok (.aload_n 0, 1) := dk_42 (dk_at dksX6_readsRow_0 6 rfl rfl)
theorem dX6_readsRow_7 : decode cX6_readsRow 7 = .ok (.invokevirtual 232, 3) := dk_182 0 232 (dk_at dksX6_readsRow_0 7 rfl rfl)
theorem dX6_readsRow_10 : decode cX6_readsRow 10 = .ok (.ifCond .eq 13, 3) := dk_153 0 13 (dk_at dksX6_readsRow_0 10 rfl rfl)
theorem dX6_readsRow_13 : decode cX6_readsRow 13 = .ok (.aload_n 0, 1) := dk_42 (dk_at dksX6_readsRow_0 13 rfl rfl)
theorem dX6_readsRow_14 : decode cX6_readsRow 14 = .ok (.iconst 4, 1) := dk_7 (dk_at dksX6_readsRow_0 14 rfl rfl)
theorem dX6_readsRow_15 : decode cX6_readsRow 15 = .ok (.aload_n 0, 1) := dk_42 (dk_at dksX6_readsRow_0 15 rfl rfl)
theorem dX6_readsRow_16 : decode cX6_readsRow 16 = .ok (.getfield 125, 3) := dk_180 0 125 (dk_at dksX6_readsRow_0 16 rfl rfl)
theorem dX6_readsRow_19 : decode cX6_readsRow 19 = .ok (.invokevirtual 138, 3) := dk_182 0 138 (dk_at dksX6_readsRow_0 19 rfl rfl)
theorem dX6_readsRow_22 : decode cX6_readsRow 22 = .ok (.ireturn, 1) := dk_172 (dk_at dksX6_readsRow_0 22 rfl rfl)
theorem dX6_readsRow_23 : decode cX6_readsRow 23 = .ok (.iconst 0, 1) := dk_3 (dk_at dksX6_readsRow_0 23 rfl rfl)
theorem dX6_readsRow_24 : decode cX6_readsRow 24 = .ok (.istore_n 2, 1) := dk_61 (dk_at dksX6_readsRow_1 0 rfl rfl)
theorem dX6_readsRow_25 : decode cX6_readsRow 25 = .ok (.iconst 1, 1) := dk_4 (dk_at dksX6_readsRow_1 1 rfl rfl)
theorem dX6_readsRow_26 : decode cX6_readsRow 26 = .ok (.istore_n 3, 1) := dk_62 (dk_at dksX6_readsRow_1 2 rfl rfl)
theorem dX6_readsRow_27 : decode cX6_readsRow 27 = .ok (.iload_n 3, 1) := dk_29 (dk_at dksX6_readsRow_1 3 rfl rfl)
theorem dX6_readsRow_28 : decode cX6_readsRow 28 = .ok (.ifCond .eq 164, 3) := dk_153 0 164 (dk_at dksX6_readsRow_1 4 rfl rfl)
theorem dX6_readsRow_31 : decode cX6_readsRow 31 = .ok (.aload_n 0, 1) := dk_42 (dk_at dksX6_readsRow_1 7 rfl rfl)
theorem dX6_readsRow_32 : decode cX6_readsRow 32 = .ok (.getfield 125, 3) := dk_180 0 125 (dk_at dksX6_readsRow_1 8 rfl rfl)
theorem dX6_readsRow_35 : decode cX6_readsRow 35 = .ok (.istore 4, 2) := dk_54 4 (dk_at dksX6_readsRow_1 11 rfl rfl)
theorem dX6_readsRow_37 : decode cX6_readsRow 37 = .ok (.iconst 1, 1) := dk_4 (dk_at dksX6_readsRow_1 13 rfl rfl)
theorem dX6_readsRow_38 : decode cX6_readsRow 38 = .ok (.istore 5, 2) := dk_54 5 (dk_at dksX6_readsRow_1 14 rfl rfl)
theorem dX6_readsRow_40 : decode cX6_readsRow 40 = .ok (.aload_n 0, 1) := dk_42 (dk_at dksX6_readsRow_1 16 rfl rfl)
theorem dX6_readsRow_41 : decode cX6_readsRow 41 = .ok (.invokevirtual 131, 3) := dk_182 0 131 (dk_at dksX6_readsRow_1 17 rfl rfl)
theorem dX6_readsRow_44 : decode cX6_readsRow 44 = .ok (.bipush 50, 2) := dk_16 50 (dk_at dksX6_readsRow_1 20 rfl rfl)
theorem dX6_readsRow_46 : decode cX6_readsRow 46 = .ok (.bipush 57, 2) := dk_16 57 (dk_at dksX6_readsRow_1 22 rfl rfl)
theorem dX6_readsRow_48 : decode cX6_readsRow 48 = .ok (.invokestatic 102, 3) := dk_184 0 102 (dk_at dksX6_readsRow_2 0 rfl rfl)
theorem dX6_readsRow_51 : decode cX6_readsRow 51 = .ok (.ifCond .eq 22, 3) := dk_153 0 22 (dk_at dksX6_readsRow_2 3 rfl rfl)
theorem dX6_readsRow_54 : decode cX6_readsRow 54 = .ok (.aload_n 0, 1) := dk_42 (dk_at dksX6_readsRow_2 6 rfl rfl)
theorem dX6_readsRow_55 : decode cX6_readsRow 55 = .ok (.invokevirtual 131, 3) := dk_182 0 131 (dk_at dksX6_readsRow_2 7 rfl rfl)
theorem dX6_readsRow_58 : decode cX6_readsRow 58 = .ok (.bipush 48, 2) := dk_16 48 (dk_at dksX6_readsRow_2 10 rfl rfl)
theorem dX6_readsRow_60 : decode cX6_readsRow 60 = .ok (.isub, 1) := dk_100 (dk_at dksX6_readsRow_2 12 rfl rfl)
theorem dX6_readsRow_61 : decode cX6_readsRow 61 = .ok (.istore 5, 2) := dk_54 5 (dk_at dksX6_readsRow_2 13 rfl rfl)
theorem dX6_readsRow_63 : decode cX6_readsRow 63 = .ok (.aload_n 0, 1) := dk_42 (dk_at dksX6_readsRow_2 15 rfl rfl)
theorem dX6_readsRow_64 : decode cX6_readsRow 64 = .ok (.aload_n 0, 1) := dk_42 (dk_at dksX6_readsRow_2 16 rfl rfl)
theorem dX6_readsRow_65 : decode cX6_readsRow 65 = .ok (.getfield 125, 3) := dk_180 0 125 (dk_at dksX6_readsRow_2 17 rfl rfl)
theorem dX6_readsRow_68 : decode cX6_readsRow 68 = .ok (.iconst 1, 1) := dk_4 (dk_at dksX6_readsRow_2 20 rfl rfl)
theorem dX6_readsRow_69 : decode cX6_readsRow 69 = .ok (.iadd, 1) := dk_96 (dk_at dksX6_readsRow_2 21 rfl rfl)
theorem dX6_readsRow_70 : decode cX6_readsRow 70 = .ok (.putfield 125, 3) := dk_181 0 125 (dk_at dksX6_readsRow_3 0 rfl rfl)
theorem dX6_readsRow_73 : decode cX6_readsRow 73 = .ok (.aload_n 0, 1) := dk_42 (dk_at dksX6_readsRow_3 3 rfl rfl)
theorem dX6_readsRow_74 : decode cX6_readsRow 74 = .ok (.invokevirtual 131, 3) := dk_182 0 131 (dk_at dksX6_readsRow_3 4 rfl rfl)
theorem dX6_readsRow_77 : decode cX6_readsRow 77 = .ok (.invokestatic 229, 3) := dk_184 0 229 (dk_at dksX6_readsRow_3 7 rfl rfl)
theorem dX6_readsRow_80 : decode cX6_readsRow 80 = .ok (.istore 6, 2) := dk_54 6 (dk_at dksX6_readsRow_3 10 rfl rfl)
theorem dX6_readsRow_82 : decode cX6_readsRow 82 = .ok (.iload 6, 2) := dk_21 6 (dk_at dksX6_readsRow_3 12 rfl rfl)
theorem dX6_readsRow_84 : decode cX6_readsRow 84 = .ok (.iconst (-1), 1) := dk_2 (dk_at dksX6_readsRow_3 14 rfl rfl)
theorem dX6_readsRow_85 : decode cX6_readsRow 85 = .ok (.if_icmp .ne 13, 3) := dk_160 0 13 (dk_at dksX6_readsRow_3 15 rfl rfl)
theorem dX6_readsRow_88 : decode cX6_readsRow 88 = .ok (.aload_n 0, 1) := dk_42 (dk_at dksX6_readsRow_3 18 rfl rfl)
theorem dX6_readsRow_89 : decode cX6_readsRow 89 = .ok (.iconst 1, 1) := dk_4 (dk_at dksX6_readsRow_3 19 rfl rfl)
theorem dX6_readsRow_90 : decode cX6_readsRow 90 = .ok (.aload_n 0, 1) := dk_42 (dk_at dksX6_readsRow_3 20 rfl rfl)
theorem dX6_readsRow_91 : decode cX6_readsRow 91 = .ok (.getfield 125, 3) := dk_180 0 125 (dk_at dksX6_readsRow_3 21 rfl rfl)
theorem dX6_readsRow_94 : decode cX6_readsRow 94 = .ok (.invokevirtual 138, 3) := dk_182 0 138 (dk_at dksX6_readsRow_4 0 rfl rfl)
theorem dX6_readsRow_97 : decode cX6_readsRow 97 = .ok (.ireturn, 1) := dk_172 (dk_at dksX6_readsRow_4 3 rfl rfl)
theorem dX6_readsRow_98 : decode cX6_readsRow 98 = .ok (.iload_n 2, 1) := dk_28 (dk_at dksX6_readsRow_4 4 rfl rfl)
theorem dX6_readsRow_99 : decode cX6_readsRow 99 = .ok (.iload 5, 2) := dk_21 5 (dk_at dksX6_readsRow_4 5 rfl rfl)
theorem dX6_readsRow_101 : decode cX6_readsRow 101 = .ok (.iadd, 1) := dk_96 (dk_at dksX6_readsRow_4 7 rfl rfl)
theorem dX6_readsRow_102 : decode cX6_readsRow 102 = .ok (.bipush 12, 2) := dk_16 12 (dk_at dksX6_readsRow_4 8 rfl rfl)
theorem dX6_readsRow_104 : decode cX6_readsRow 104 = .ok (.if_icmp .le 12, 3) := dk_164 0 12 (dk_at dksX6_readsRow_4 10 rfl rfl)
theorem dX6_readsRow_107 : decode cX6_readsRow 107 = .ok (.aload_n 0, 1) := dk_42 (dk_at dksX6_readsRow_4 13 rfl rfl)
theorem dX6_readsRow_108 : decode cX6_readsRow 108 = .ok (.bipush 6, 2) := dk_16 6 (dk_at dksX6_readsRow_4 14 rfl rfl)
theorem dX6_readsRow_110 : decode cX6_readsRow 110 = .ok (.iload 4, 2) := dk_21 4 (dk_at dksX6_readsRow_4 16 rfl rfl)
theorem dX6_readsRow_112 : decode cX6_readsRow 112 = .ok (.invokevirtual 138, 3) := dk_182 0 138 (dk_at dksX6_readsRow_4 18 rfl rfl)
theorem dX6_readsRow_115 : decode cX6_readsRow 115 = .ok (.ireturn, 1) := dk_172 (dk_at dksX6_readsRow_4 21 rfl rfl)
theorem dX6_readsRow_116 : decode cX6_readsRow 116 = .ok (.aload_n 0, 1) := dk_42 (dk_at dksX6_readsRow_4 22 rfl rfl)
theorem dX6_readsRow_117 : decode cX6_readsRow 117 = .ok (.aload_n 0, 1) := dk_42 (dk_at dksX6_readsRow_4 23 rfl rfl)
theorem dX6_readsRow_118 : decode cX6_readsRow 118 = .ok (.getfield 125, 3) := dk_180 0 125 (dk_at dksX6_readsRow_5 0 rfl rfl)
theorem dX6_readsRow_121 : decode cX6_readsRow 121 = .ok (.iconst 1, 1) := dk_4 (dk_at dksX6_readsRow_5 3 rfl rfl)
theorem dX6_readsRow_122 : decode cX6_readsRow 122 = .ok (.iadd, 1) := dk_96 (dk_at dksX6_readsRow_5 4 rfl rfl)
theorem dX6_readsRow_123 : decode cX6_readsRow 123 = .ok (.putfield 125, 3) := dk_181 0 125 (dk_at dksX6_readsRow_5 5 rfl rfl)
theorem dX6_readsRow_126 : decode cX6_readsRow 126 = .ok (.iconst 0, 1) := dk_3 (dk_at dksX6_readsRow_5 8 rfl rfl)
theorem dX6_readsRow_127 : decode cX6_readsRow 127 = .ok (.istore 7, 2) := dk_54 7 (dk_at dksX6_readsRow_5 9 rfl rfl)
theorem dX6_readsRow_129 : decode cX6_readsRow 129 = .ok (.iload 7, 2) := dk_21 7 (dk_at dksX6_readsRow_5 11 rfl rfl)
theorem dX6_readsRow_131 : decode cX6_readsRow 131 = .ok (.iload 5, 2) := dk_21 5 (dk_at dksX6_readsRow_5 13 rfl rfl)
theorem dX6_readsRow_133 : decode cX6_readsRow 133 = .ok (.if_icmp .ge 25, 3) := dk_162 0 25 (dk_at dksX6_readsRow_5 15 rfl rfl)
theorem dX6_readsRow_136 : decode cX6_readsRow 136 = .ok (.aload_n 0, 1) := dk_42 (dk_at dksX6_readsRow_5 18 rfl rfl)
theorem dX6_readsRow_137 : decode cX6_readsRow 137 = .ok (.getfield 68, 3) := dk_180 0 68 (dk_at dksX6_readsRow_5 19 rfl rfl)
theorem dX6_readsRow_140 : decode cX6_readsRow 140 = .ok (.bipush 12, 2) := dk_16 12 (dk_at dksX6_readsRow_5 22 rfl rfl)
theorem dX6_readsRow_142 : decode cX6_readsRow 142 = .ok (.iload_n 1, 1) := dk_27 (dk_at dksX6_readsRow_6 0 rfl rfl)
theorem dX6_readsRow_143 : decode cX6_readsRow 143 = .ok (.imul, 1) := dk_104 (dk_at dksX6_readsRow_6 1 rfl rfl)
theorem dX6_readsRow_144 : decode cX6_readsRow 144 = .ok (.iload_n 2, 1) := dk_28 (dk_at dksX6_readsRow_6 2 rfl rfl)
theorem dX6_readsRow_145 : decode cX6_readsRow 145 = .ok (.iadd, 1) := dk_96 (dk_at dksX6_readsRow_6 3 rfl rfl)
theorem dX6_readsRow_146 : decode cX6_readsRow 146 = .ok (.iload 7, 2) := dk_21 7 (dk_at dksX6_readsRow_6 4 rfl rfl)
theorem dX6_readsRow_148 : decode cX6_readsRow 148 = .ok (.iadd, 1) := dk_96 (dk_at dksX6_readsRow_6 6 rfl rfl)
theorem dX6_readsRow_149 : decode cX6_readsRow 149 = .ok (.iload 6, 2) := dk_21 6 (dk_at dksX6_readsRow_6 7 rfl rfl)
theorem dX6_readsRow_151 : decode cX6_readsRow 151 = .ok (.iastore, 1) := dk_79 (dk_at dksX6_readsRow_6 9 rfl rfl)
theorem dX6_readsRow_152 : decode cX6_readsRow 152 = .ok (.iinc 7 1, 3) := dk_132 7 1 (dk_at dksX6_readsRow_6 10 rfl rfl)
theorem dX6_readsRow_155 : decode cX6_readsRow 155 = .ok (.goto (-26), 3) := dk_167 255 230 (dk_at dksX6_readsRow_6 13 rfl rfl)
theorem dX6_readsRow_158 : decode cX6_readsRow 158 = .ok (.iload_n 2, 1) := dk_28 (dk_at dksX6_readsRow_6 16 rfl rfl)
theorem dX6_readsRow_159 : decode cX6_readsRow 159 = .ok (.iload 5, 2) := dk_21 5 (dk_at dksX6_readsRow_6 17 rfl rfl)
theorem dX6_readsRow_161 : decode cX6_readsRow 161 = .ok (.iadd, 1) := dk_96 (dk_at dksX6_readsRow_6 19 rfl rfl)
theorem dX6_readsRow_162 : decode cX6_readsRow 162 = .ok (.istore_n 2, 1) := dk_61 (dk_at dksX6_readsRow_6 20 rfl rfl)
theorem dX6_readsRow_163 : decode cX6_readsRow 163 = .ok (.aload_n 0, 1) := dk_42 (dk_at dksX6_readsRow_6 21 rfl rfl)
theorem dX6_readsRow_164 : decode cX6_readsRow 164 = .ok (.getfield 125, 3) := dk_180 0 125 (dk_at dksX6_readsRow_7 0 rfl rfl)
theorem dX6_readsRow_167 : decode cX6_readsRow 167 = .ok (.aload_n 0, 1) := dk_42 (dk_at dksX6_readsRow_7 3 rfl rfl)
theorem dX6_readsRow_168 : decode cX6_readsRow 168 = .ok (.getfield 128, 3) := dk_180 0 128 (dk_at dksX6_readsRow_7 4 rfl rfl)
theorem dX6_readsRow_171 : decode cX6_readsRow 171 = .ok (.if_icmp .ge 16, 3) := dk_162 0 16 (dk_at dksX6_readsRow_7 7 rfl rfl)
theorem dX6_readsRow_174 : decode cX6_readsRow 174 = .ok (.aload_n 0, 1) := dk_42 (dk_at dksX6_readsRow_7 10 rfl rfl)
theorem dX6_readsRow_175 : decode cX6_readsRow 175 = .ok (.invokevirtual 131, 3) := dk_182 0 131 (dk_at dksX6_readsRow_7 11 rfl rfl)
theorem dX6_readsRow_178 : decode cX6_readsRow 178 = .ok (.bipush 47, 2) := dk_16 47 (dk_at dksX6_readsRow_7 14 rfl rfl)
theorem dX6_readsRow_180 : decode cX6_readsRow 180 = .ok (.if_icmp .eq 7, 3) := dk_159 0 7 (dk_at dksX6_readsRow_7 16 rfl rfl)
theorem dX6_readsRow_183 : decode cX6_readsRow 183 = .ok (.iconst 1, 1) := dk_4 (dk_at dksX6_readsRow_7 19 rfl rfl)
theorem dX6_readsRow_184 : decode cX6_readsRow 184 = .ok (.goto 4, 3) := dk_167 0 4 (dk_at dksX6_readsRow_7 20 rfl rfl)
theorem dX6_readsRow_187 : decode cX6_readsRow 187 = .ok (.iconst 0, 1) := dk_3 (dk_at dksX6_readsRow_7 23 rfl rfl)
theorem dX6_readsRow_188 : decode cX6_readsRow 188 = .ok (.istore_n 3, 1) := dk_62 (dk_at dksX6_readsRow_8 0 rfl rfl)
theorem dX6_readsRow_189 : decode cX6_readsRow 189 = .ok (.goto (-162), 3) := dk_167 255 94 (dk_at dksX6_readsRow_8 1 rfl rfl)
theorem dX6_readsRow_192 : decode cX6_readsRow 192 = .ok (.iconst 1, 1) := dk_4 (dk_at dksX6_readsRow_8 4 rfl rfl)
theorem dX6_readsRow_193 : decode cX6_readsRow 193 = .ok (.ireturn, 1) := dk_172 (dk_at dksX6_readsRow_8 5 rfl rfl)
abbrev cX6_canBeginRow : ByteArray := prog_20_method_45_code
def yX6_canBeginRow : MethodName := ⟨RX6, "canBeginRow", "()Z"⟩
def dkwX6_canBeginRow_1 : List UInt8 := [159, 0, 7, 4, 167, 0, 4, 3, 172]
abbrev dktX6_canBeginRow_1 : List UInt8 := dkwX6_canBeginRow_1 ++ []
def dkwX6_canBeginRow_0 : List UInt8 := [42, 182, 0, 131, 16, 50, 16, 57, 184, 0, 102, 154, 0, 14, 42, 182, 0, 131, 184, 0, 229, 2]
abbrev dktX6_canBeginRow_0 : List UInt8 := dkwX6_canBeginRow_0 ++ dktX6_canBeginRow_1
theorem dksX6_canBeginRow_0 : cX6_canBeginRow.data.toList.drop 0 = dktX6_canBeginRow_0 := by decide +kernel
theorem dksX6_canBeginRow_1 : cX6_canBeginRow.data.toList.drop 22 = dktX6_canBeginRow_1 := dk_seg dksX6_canBeginRow_0 22 rfl rfl
theorem dX6_canBeginRow_0 : decode cX6_canBeginRow 0 = .ok (.aload_n 0, 1) := dk_42 (dk_at dksX6_canBeginRow_0 0 rfl rfl)
theorem dX6_canBeginRow_1 : decode cX6_canBeginRow 1 = .ok (.invokevirtual 131, 3) := dk_182 0 131 (dk_at dksX6_canBeginRow_0 1 rfl rfl)
theorem dX6_canBeginRow_4 : decode cX6_canBeginRow 4 = .ok (.bipush 50, 2) := dk_16 50 (dk_at dksX6_canBeginRow_0 4 rfl rfl)
theorem dX6_canBeginRow_6 : decode cX6_canBeginRow 6 = .ok (.bipush 57, 2) := dk_16 57 (dk_at dksX6_canBeginRow_0 6 rfl rfl)
theorem dX6_canBeginRow_8 : decode cX6_canBeginRow 8 = .ok (.invokestatic 102, 3) := dk_184 0 102 (dk_at dksX6_canBeginRow_0 8 rfl rfl)
theorem dX6_canBeginRow_11 : decode cX6_canBeginRow 11 = .ok (.ifCond .ne 14, 3) := dk_154 0 14 (dk_at dksX6_canBeginRow_0 11 rfl rfl)
theorem dX6_canBeginRow_14 : decode cX6_canBeginRow 14 = .ok (.aload_n 0, 1) := dk_42 (dk_at dksX6_canBeginRow_0 14 rfl rfl)
theorem dX6_canBeginRow_15 : decode cX6_canBeginRow 15 = .ok (.invokevirtual 131, 3) := dk_182 0 131 (dk_at dksX6_canBeginRow_0 15 rfl rfl)
theorem dX6_canBeginRow_18 : decode cX6_canBeginRow 18 = .ok (.invokestatic 229, 3) := dk_184 0 229 (dk_at dksX6_canBeginRow_0 18 rfl rfl)
theorem dX6_canBeginRow_21 : decode cX6_canBeginRow 21 = .ok (.iconst (-1), 1) := dk_2 (dk_at dksX6_canBeginRow_0 21 rfl rfl)
theorem dX6_canBeginRow_22 : decode cX6_canBeginRow 22 = .ok (.if_icmp .eq 7, 3) := dk_159 0 7 (dk_at dksX6_canBeginRow_1 0 rfl rfl)
theorem dX6_canBeginRow_25 : decode cX6_canBeginRow 25 = .ok (.iconst 1, 1) := dk_4 (dk_at dksX6_canBeginRow_1 3 rfl rfl)
theorem dX6_canBeginRow_26 : decode cX6_canBeginRow 26 = .ok (.goto 4, 3) := dk_167 0 4 (dk_at dksX6_canBeginRow_1 4 rfl rfl)
theorem dX6_canBeginRow_29 : decode cX6_canBeginRow 29 = .ok (.iconst 0, 1) := dk_3 (dk_at dksX6_canBeginRow_1 7 rfl rfl)
theorem dX6_canBeginRow_30 : decode cX6_canBeginRow 30 = .ok (.ireturn, 1) := dk_172 (dk_at dksX6_canBeginRow_1 8 rfl rfl)
abbrev cX6_kindBy : ByteArray := prog_20_method_44_code
def yX6_kindBy : MethodName := ⟨RX6, "kindBy", "(I)I"⟩
def dkwX6_kindBy_1 : List UInt8 := [160, 0, 7, 5, 167, 0, 14, 26, 16, 126, 160, 0, 7, 6, 167, 0, 4, 2, 172]
abbrev dktX6_kindBy_1 : List UInt8 := dkwX6_kindBy_1 ++ []
def dkwX6_kindBy_0 : List UInt8 := [26, 16, 46, 160, 0, 7, 3, 167, 0, 34, 26, 16, 35, 160, 0, 7, 4, 167, 0, 24, 26, 16, 43]
abbrev dktX6_kindBy_0 : List UInt8 := dkwX6_kindBy_0 ++ dktX6_kindBy_1
theorem dksX6_kindBy_0 : cX6_kindBy.data.toList.drop 0 = dktX6_kindBy_0 := by decide +kernel
theorem dksX6_kindBy_1 : cX6_kindBy.data.toList.drop 23 = dktX6_kindBy_1 := dk_seg dksX6_kindBy_0 23 rfl rfl
theorem dX6_kindBy_0 : decode cX6_kindBy 0 = .ok (.iload_n 0, 1) := dk_26 (dk_at dksX6_kindBy_0 0 rfl rfl)
theorem dX6_kindBy_1 : decode cX6_kindBy 1 = .ok (.bipush 46, 2) := dk_16 46 (dk_at dksX6_kindBy_0 1 rfl rfl)
theorem dX6_kindBy_3 : decode cX6_kindBy 3 = .ok (.if_icmp .ne 7, 3) := dk_160 0 7 (dk_at dksX6_kindBy_0 3 rfl rfl)
theorem dX6_kindBy_6 : decode cX6_kindBy 6 = .ok (.iconst 0, 1) := dk_3 (dk_at dksX6_kindBy_0 6 rfl rfl)
theorem dX6_kindBy_7 : decode cX6_kindBy 7 = .ok (.goto 34, 3) := dk_167 0 34 (dk_at dksX6_kindBy_0 7 rfl rfl)
theorem dX6_kindBy_10 : decode cX6_kindBy 10 = .ok (.iload_n 0, 1) := dk_26 (dk_at dksX6_kindBy_0 10 rfl rfl)
theorem dX6_kindBy_11 : decode cX6_kindBy 11 = .ok (.bipush 35, 2) := dk_16 35 (dk_at dksX6_kindBy_0 11 rfl rfl)
theorem dX6_kindBy_13 : decode cX6_kindBy 13 = .ok (.if_icmp .ne 7, 3) := dk_160 0 7 (dk_at dksX6_kindBy_0 13 rfl rfl)
theorem dX6_kindBy_16 : decode cX6_kindBy 16 = .ok (.iconst 1, 1) := dk_4 (dk_at dksX6_kindBy_0 16 rfl rfl)
theorem dX6_kindBy_17 : decode cX6_kindBy 17 = .ok (.goto 24, 3) := dk_167 0 24 (dk_at dksX6_kindBy_0 17 rfl rfl)
theorem dX6_kindBy_20 : decode cX6_kindBy 20 = .ok (.iload_n 0, 1) := dk_26 (dk_at dksX6_kindBy_0 20 rfl rfl)
theorem dX6_kindBy_21 : decode cX6_kindBy 21 = .ok (.bipush 43, 2) := dk_16 43 (dk_at dksX6_kindBy_0 21 rfl rfl)
theorem dX6_kindBy_23 : decode cX6_kindBy 23 = .ok (.if_icmp .ne 7, 3) := dk_160 0 7 (dk_at dksX6_kindBy_1 0 rfl rfl)
theorem dX6_kindBy_26 : decode cX6_kindBy 26 = .ok (.iconst 2, 1) := dk_5 (dk_at dksX6_kindBy_1 3 rfl rfl)
theorem dX6_kindBy_27 : decode cX6_kindBy 27 = .ok (.goto 14, 3) := dk_167 0 14 (dk_at dksX6_kindBy_1 4 rfl rfl)
theorem dX6_kindBy_30 : decode cX6_kindBy 30 = .ok (.iload_n 0, 1) := dk_26 (dk_at dksX6_kindBy_1 7 rfl rfl)
theorem dX6_kindBy_31 : decode cX6_kindBy 31 = .ok (.bipush 126, 2) := dk_16 126 (dk_at dksX6_kindBy_1 8 rfl rfl)
theorem dX6_kindBy_33 : decode cX6_kindBy 33 = .ok (.if_icmp .ne 7, 3) := dk_160 0 7 (dk_at dksX6_kindBy_1 10 rfl rfl)
theorem dX6_kindBy_36 : decode cX6_kindBy 36 = .ok (.iconst 3, 1) := dk_6 (dk_at dksX6_kindBy_1 13 rfl rfl)
theorem dX6_kindBy_37 : decode cX6_kindBy 37 = .ok (.goto 4, 3) := dk_167 0 4 (dk_at dksX6_kindBy_1 14 rfl rfl)
theorem dX6_kindBy_40 : decode cX6_kindBy 40 = .ok (.iconst (-1), 1) := dk_2 (dk_at dksX6_kindBy_1 17 rfl rfl)
theorem dX6_kindBy_41 : decode cX6_kindBy 41 = .ok (.ireturn, 1) := dk_172 (dk_at dksX6_kindBy_1 18 rfl rfl)
abbrev cX6_becomesWhole : ByteArray := prog_20_method_48_code
def yX6_becomesWhole : MethodName := ⟨RX6, "becomesWhole", "(I)V"⟩
def dkwX6_becomesWhole_0 : List UInt8 := [42, 180, 0, 7, 3, 27, 96, 3, 79, 42, 180, 0, 7, 16, 96, 27, 96, 3, 79, 177]
abbrev dktX6_becomesWhole_0 : List UInt8 := dkwX6_becomesWhole_0 ++ []
theorem dksX6_becomesWhole_0 : cX6_becomesWhole.data.toList.drop 0 = dktX6_becomesWhole_0 := by decide +kernel
theorem dX6_becomesWhole_0 : decode cX6_becomesWhole 0 = .ok (.aload_n 0, 1) := dk_42 (dk_at dksX6_becomesWhole_0 0 rfl rfl)
theorem dX6_becomesWhole_1 : decode cX6_becomesWhole 1 = .ok (.getfield 7, 3) := dk_180 0 7 (dk_at dksX6_becomesWhole_0 1 rfl rfl)
theorem dX6_becomesWhole_4 : decode cX6_becomesWhole 4 = .ok (.iconst 0, 1) := dk_3 (dk_at dksX6_becomesWhole_0 4 rfl rfl)
theorem dX6_becomesWhole_5 : decode cX6_becomesWhole 5 = .ok (.iload_n 1, 1) := dk_27 (dk_at dksX6_becomesWhole_0 5 rfl rfl)
theorem dX6_becomesWhole_6 : decode cX6_becomesWhole 6 = .ok (.iadd, 1) := dk_96 (dk_at dksX6_becomesWhole_0 6 rfl rfl)
theorem dX6_becomesWhole_7 : decode cX6_becomesWhole 7 = .ok (.iconst 0, 1) := dk_3 (dk_at dksX6_becomesWhole_0 7 rfl rfl)
theorem dX6_becomesWhole_8 : decode cX6_becomesWhole 8 = .ok (.iastore, 1) := dk_79 (dk_at dksX6_becomesWhole_0 8 rfl rfl)
theorem dX6_becomesWhole_9 : decode cX6_becomesWhole 9 = .ok (.aload_n 0, 1) := dk_42 (dk_at dksX6_becomesWhole_0 9 rfl rfl)
theorem dX6_becomesWhole_10 : decode cX6_becomesWhole 10 = .ok (.getfield 7, 3) := dk_180 0 7 (dk_at dksX6_becomesWhole_0 10 rfl rfl)
theorem dX6_becomesWhole_13 : decode cX6_becomesWhole 13 = .ok (.bipush 96, 2) := dk_16 96 (dk_at dksX6_becomesWhole_0 13 rfl rfl)
theorem dX6_becomesWhole_15 : decode cX6_becomesWhole 15 = .ok (.iload_n 1, 1) := dk_27 (dk_at dksX6_becomesWhole_0 15 rfl rfl)
theorem dX6_becomesWhole_16 : decode cX6_becomesWhole 16 = .ok (.iadd, 1) := dk_96 (dk_at dksX6_becomesWhole_0 16 rfl rfl)
theorem dX6_becomesWhole_17 : decode cX6_becomesWhole 17 = .ok (.iconst 0, 1) := dk_3 (dk_at dksX6_becomesWhole_0 17 rfl rfl)
theorem dX6_becomesWhole_18 : decode cX6_becomesWhole 18 = .ok (.iastore, 1) := dk_79 (dk_at dksX6_becomesWhole_0 18 rfl rfl)
theorem dX6_becomesWhole_19 : decode cX6_becomesWhole 19 = .ok (.return_, 1) := dk_177 (dk_at dksX6_becomesWhole_0 19 rfl rfl)
abbrev cX6_isWood : ByteArray := prog_20_method_12_code
def yX6_isWood : MethodName := ⟨RX6, "isWood", "(I)Z"⟩
def dkwX6_isWood_0 : List UInt8 := [27, 184, 0, 110, 153, 0, 17, 42, 180, 0, 19, 27, 46, 4, 160, 0, 7, 4, 167, 0, 4, 3, 172]
abbrev dktX6_isWood_0 : List UInt8 := dkwX6_isWood_0 ++ []
theorem dksX6_isWood_0 : cX6_isWood.data.toList.drop 0 = dktX6_isWood_0 := by decide +kernel
theorem dX6_isWood_0 : decode cX6_isWood 0 = .ok (.iload_n 1, 1) := dk_27 (dk_at dksX6_isWood_0 0 rfl rfl)
theorem dX6_isWood_1 : decode cX6_isWood 1 = .ok (.invokestatic 110, 3) := dk_184 0 110 (dk_at dksX6_isWood_0 1 rfl rfl)
theorem dX6_isWood_4 : decode cX6_isWood 4 = .ok (.ifCond .eq 17, 3) := dk_153 0 17 (dk_at dksX6_isWood_0 4 rfl rfl)
theorem dX6_isWood_7 : decode cX6_isWood 7 = .ok (.aload_n 0, 1) := dk_42 (dk_at dksX6_isWood_0 7 rfl rfl)
theorem dX6_isWood_8 : decode cX6_isWood 8 = .ok (.getfield 19, 3) := dk_180 0 19 (dk_at dksX6_isWood_0 8 rfl rfl)
theorem dX6_isWood_11 : decode cX6_isWood 11 = .ok (.iload_n 1, 1) := dk_27 (dk_at dksX6_isWood_0 11 rfl rfl)
theorem dX6_isWood_12 : decode cX6_isWood 12 = .ok (.iaload, 1) := dk_46 (dk_at dksX6_isWood_0 12 rfl rfl)
theorem dX6_isWood_13 : decode cX6_isWood 13 = .ok (.iconst 1, 1) := dk_4 (dk_at dksX6_isWood_0 13 rfl rfl)
theorem dX6_isWood_14 : decode cX6_isWood 14 = .ok (.if_icmp .ne 7, 3) := dk_160 0 7 (dk_at dksX6_isWood_0 14 rfl rfl)
theorem dX6_isWood_17 : decode cX6_isWood 17 = .ok (.iconst 1, 1) := dk_4 (dk_at dksX6_isWood_0 17 rfl rfl)
theorem dX6_isWood_18 : decode cX6_isWood 18 = .ok (.goto 4, 3) := dk_167 0 4 (dk_at dksX6_isWood_0 18 rfl rfl)
theorem dX6_isWood_21 : decode cX6_isWood 21 = .ok (.iconst 0, 1) := dk_3 (dk_at dksX6_isWood_0 21 rfl rfl)
theorem dX6_isWood_22 : decode cX6_isWood 22 = .ok (.ireturn, 1) := dk_172 (dk_at dksX6_isWood_0 22 rfl rfl)
abbrev cX6_isPlace : ByteArray := prog_20_method_9_code
def yX6_isPlace : MethodName := ⟨RX6, "isPlace", "(I)Z"⟩
def dkwX6_isPlace_0 : List UInt8 := [26, 3, 16, 95, 184, 0, 102, 172]
abbrev dktX6_isPlace_0 : List UInt8 := dkwX6_isPlace_0 ++ []
theorem dksX6_isPlace_0 : cX6_isPlace.data.toList.drop 0 = dktX6_isPlace_0 := by decide +kernel
theorem dX6_isPlace_0 : decode cX6_isPlace 0 = .ok (.iload_n 0, 1) := dk_26 (dk_at dksX6_isPlace_0 0 rfl rfl)
theorem dX6_isPlace_1 : decode cX6_isPlace 1 = .ok (.iconst 0, 1) := dk_3 (dk_at dksX6_isPlace_0 1 rfl rfl)
theorem dX6_isPlace_2 : decode cX6_isPlace 2 = .ok (.bipush 95, 2) := dk_16 95 (dk_at dksX6_isPlace_0 2 rfl rfl)
theorem dX6_isPlace_4 : decode cX6_isPlace 4 = .ok (.invokestatic 102, 3) := dk_184 0 102 (dk_at dksX6_isPlace_0 4 rfl rfl)
theorem dX6_isPlace_7 : decode cX6_isPlace 7 = .ok (.ireturn, 1) := dk_172 (dk_at dksX6_isPlace_0 7 rfl rfl)
abbrev cX6_orders : ByteArray := prog_20_method_56_code
def yX6_orders : MethodName := ⟨RX6, "orders", "(I)I"⟩
def dkwX6_orders_7 : List UInt8 := [167, 255, 235, 42, 180, 0, 135, 172]
abbrev dktX6_orders_7 : List UInt8 := dkwX6_orders_7 ++ []
def dkwX6_orders_6 : List UInt8 := [62, 29, 16, 96, 162, 0, 21, 42, 180, 0, 19, 29, 42, 180, 0, 22, 29, 46, 79, 132, 3, 1]
abbrev dktX6_orders_6 : List UInt8 := dkwX6_orders_6 ++ dktX6_orders_7
def dkwX6_orders_5 : List UInt8 := [181, 0, 117, 28, 153, 0, 8, 42, 180, 1, 0, 172, 42, 180, 0, 13, 42, 180, 0, 7, 184, 1, 15, 3]
abbrev dktX6_orders_5 : List UInt8 := dkwX6_orders_5 ++ dktX6_orders_6
def dkwX6_orders_4 : List UInt8 := [182, 0, 215, 153, 0, 14, 42, 182, 1, 19, 153, 0, 7, 4, 167, 0, 4, 3, 61, 167, 255, 219, 42, 3]
abbrev dktX6_orders_4 : List UInt8 := dkwX6_orders_4 ++ dktX6_orders_5
def dkwX6_orders_3 : List UInt8 := [182, 1, 19, 61, 28, 153, 0, 39, 42, 180, 0, 125, 42, 180, 0, 128, 162, 0, 28, 42, 16, 59]
abbrev dktX6_orders_3 : List UInt8 := dkwX6_orders_3 ++ dktX6_orders_4
def dkwX6_orders_2 : List UInt8 := [162, 0, 21, 42, 180, 0, 22, 28, 42, 180, 0, 19, 28, 46, 79, 132, 2, 1, 167, 255, 235, 42]
abbrev dktX6_orders_2 : List UInt8 := dkwX6_orders_2 ++ dktX6_orders_3
def dkwX6_orders_1 : List UInt8 := [182, 0, 209, 42, 3, 181, 1, 0, 42, 180, 0, 7, 42, 180, 0, 13, 184, 1, 15, 3, 61, 28, 16, 96]
abbrev dktX6_orders_1 : List UInt8 := dkwX6_orders_1 ++ dktX6_orders_2
def dkwX6_orders_0 : List UInt8 := [27, 4, 16, 120, 184, 0, 102, 153, 0, 11, 27, 42, 180, 0, 117, 164, 0, 5, 2, 172, 42, 27]
abbrev dktX6_orders_0 : List UInt8 := dkwX6_orders_0 ++ dktX6_orders_1
theorem dksX6_orders_0 : cX6_orders.data.toList.drop 0 = dktX6_orders_0 := by decide +kernel
theorem dksX6_orders_1 : cX6_orders.data.toList.drop 22 = dktX6_orders_1 := dk_seg dksX6_orders_0 22 rfl rfl
theorem dksX6_orders_2 : cX6_orders.data.toList.drop 46 = dktX6_orders_2 := dk_seg dksX6_orders_1 24 rfl rfl
theorem dksX6_orders_3 : cX6_orders.data.toList.drop 68 = dktX6_orders_3 := dk_seg dksX6_orders_2 22 rfl rfl
theorem dksX6_orders_4 : cX6_orders.data.toList.drop 90 = dktX6_orders_4 := dk_seg dksX6_orders_3 22 rfl rfl
theorem dksX6_orders_5 : cX6_orders.data.toList.drop 114 = dktX6_orders_5 := dk_seg dksX6_orders_4 24 rfl rfl
theorem dksX6_orders_6 : cX6_orders.data.toList.drop 138 = dktX6_orders_6 := dk_seg dksX6_orders_5 24 rfl rfl
theorem dksX6_orders_7 : cX6_orders.data.toList.drop 160 = dktX6_orders_7 := dk_seg dksX6_orders_6 22 rfl rfl
theorem dX6_orders_0 : decode cX6_orders 0 = .ok (.iload_n 1, 1) := dk_27 (dk_at dksX6_orders_0 0 rfl rfl)
theorem dX6_orders_1 : decode cX6_orders 1 = .ok (.iconst 1, 1) := dk_4 (dk_at dksX6_orders_0 1 rfl rfl)
theorem dX6_orders_2 : decode cX6_orders 2 = .ok (.bipush 120, 2) := dk_16 120 (dk_at dksX6_orders_0 2 rfl rfl)
theorem dX6_orders_4 : decode cX6_orders 4 = .ok (.invokestatic 102, 3) := dk_184 0 102 (dk_at dksX6_orders_0 4 rfl rfl)
theorem dX6_orders_7 : decode cX6_orders 7 = .ok (.ifCond .eq 11, 3) := dk_153 0 11 (dk_at dksX6_orders_0 7 rfl rfl)
theorem dX6_orders_10 : decode cX6_orders 10 = .ok (.iload_n 1, 1) := dk_27 (dk_at dksX6_orders_0 10 rfl rfl)
theorem dX6_orders_11 : decode cX6_orders 11 = .ok (.aload_n 0, 1) := dk_42 (dk_at dksX6_orders_0 11 rfl rfl)
theorem dX6_orders_12 : decode cX6_orders 12 = .ok (.getfield 117, 3) := dk_180 0 117 (dk_at dksX6_orders_0 12 rfl rfl)
theorem dX6_orders_15 : decode cX6_orders 15 = .ok (.if_icmp .le 5, 3) := dk_164 0 5 (dk_at dksX6_orders_0 15 rfl rfl)
theorem dX6_orders_18 : decode cX6_orders 18 = .ok (.iconst (-1), 1) := dk_2 (dk_at dksX6_orders_0 18 rfl rfl)
theorem dX6_orders_19 : decode cX6_orders 19 = .ok (.ireturn, 1) := dk_172 (dk_at dksX6_orders_0 19 rfl rfl)
theorem dX6_orders_20 : decode cX6_orders 20 = .ok (.aload_n 0, 1) := dk_42 (dk_at dksX6_orders_0 20 rfl rfl)
theorem dX6_orders_21 : decode cX6_orders 21 = .ok (.iload_n 1, 1) := dk_27 (dk_at dksX6_orders_0 21 rfl rfl)
theorem dX6_orders_22 : decode cX6_orders 22 = .ok (.invokevirtual 209, 3) := dk_182 0 209 (dk_at dksX6_orders_1 0 rfl rfl)
theorem dX6_orders_25 : decode cX6_orders 25 = .ok (.aload_n 0, 1) := dk_42 (dk_at dksX6_orders_1 3 rfl rfl)
theorem dX6_orders_26 : decode cX6_orders 26 = .ok (.iconst 0, 1) := dk_3 (dk_at dksX6_orders_1 4 rfl rfl)
theorem dX6_orders_27 : decode cX6_orders 27 = .ok (.putfield 256, 3) := dk_181 1 0 (dk_at dksX6_orders_1 5 rfl rfl)
theorem dX6_orders_30 : decode cX6_orders 30 = .ok (.aload_n 0, 1) := dk_42 (dk_at dksX6_orders_1 8 rfl rfl)
theorem dX6_orders_31 : decode cX6_orders 31 = .ok (.getfield 7, 3) := dk_180 0 7 (dk_at dksX6_orders_1 9 rfl rfl)
theorem dX6_orders_34 : decode cX6_orders 34 = .ok (.aload_n 0, 1) := dk_42 (dk_at dksX6_orders_1 12 rfl rfl)
theorem dX6_orders_35 : decode cX6_orders 35 = .ok (.getfield 13, 3) := dk_180 0 13 (dk_at dksX6_orders_1 13 rfl rfl)
theorem dX6_orders_38 : decode cX6_orders 38 = .ok (.invokestatic 271, 3) := dk_184 1 15 (dk_at dksX6_orders_1 16 rfl rfl)
theorem dX6_orders_41 : decode cX6_orders 41 = .ok (.iconst 0, 1) := dk_3 (dk_at dksX6_orders_1 19 rfl rfl)
theorem dX6_orders_42 : decode cX6_orders 42 = .ok (.istore_n 2, 1) := dk_61 (dk_at dksX6_orders_1 20 rfl rfl)
theorem dX6_orders_43 : decode cX6_orders 43 = .ok (.iload_n 2, 1) := dk_28 (dk_at dksX6_orders_1 21 rfl rfl)
theorem dX6_orders_44 : decode cX6_orders 44 = .ok (.bipush 96, 2) := dk_16 96 (dk_at dksX6_orders_1 22 rfl rfl)
theorem dX6_orders_46 : decode cX6_orders 46 = .ok (.if_icmp .ge 21, 3) := dk_162 0 21 (dk_at dksX6_orders_2 0 rfl rfl)
theorem dX6_orders_49 : decode cX6_orders 49 = .ok (.aload_n 0, 1) := dk_42 (dk_at dksX6_orders_2 3 rfl rfl)
theorem dX6_orders_50 : decode cX6_orders 50 = .ok (.getfield 22, 3) := dk_180 0 22 (dk_at dksX6_orders_2 4 rfl rfl)
theorem dX6_orders_53 : decode cX6_orders 53 = .ok (.iload_n 2, 1) := dk_28 (dk_at dksX6_orders_2 7 rfl rfl)
theorem dX6_orders_54 : decode cX6_orders 54 = .ok (.aload_n 0, 1) := dk_42 (dk_at dksX6_orders_2 8 rfl rfl)
theorem dX6_orders_55 : decode cX6_orders 55 = .ok (.getfield 19, 3) := dk_180 0 19 (dk_at dksX6_orders_2 9 rfl rfl)
theorem dX6_orders_58 : decode cX6_orders 58 = .ok (.iload_n 2, 1) := dk_28 (dk_at dksX6_orders_2 12 rfl rfl)
theorem dX6_orders_59 : decode cX6_orders 59 = .ok (.iaload, 1) := dk_46 (dk_at dksX6_orders_2 13 rfl rfl)
theorem dX6_orders_60 : decode cX6_orders 60 = .ok (.iastore, 1) := dk_79 (dk_at dksX6_orders_2 14 rfl rfl)
theorem dX6_orders_61 : decode cX6_orders 61 = .ok (.iinc 2 1, 3) := dk_132 2 1 (dk_at dksX6_orders_2 15 rfl rfl)
theorem dX6_orders_64 : decode cX6_orders 64 = .ok (.goto (-21), 3) := dk_167 255 235 (dk_at dksX6_orders_2 18 rfl rfl)
theorem dX6_orders_67 : decode cX6_orders 67 = .ok (.aload_n 0, 1) := dk_42 (dk_at dksX6_orders_2 21 rfl rfl)
theorem dX6_orders_68 : decode cX6_orders 68 = .ok (.invokevirtual 275, 3) := dk_182 1 19 (dk_at dksX6_orders_3 0 rfl rfl)
theorem dX6_orders_71 : decode cX6_orders 71 = .ok (.istore_n 2, 1) := dk_61 (dk_at dksX6_orders_3 3 rfl rfl)
theorem dX6_orders_72 : decode cX6_orders 72 = .ok (.iload_n 2, 1) := dk_28 (dk_at dksX6_orders_3 4 rfl rfl)
theorem dX6_orders_73 : decode cX6_orders 73 = .ok (.ifCond .eq 39, 3) := dk_153 0 39 (dk_at dksX6_orders_3 5 rfl rfl)
theorem dX6_orders_76 : decode cX6_orders 76 = .ok (.aload_n 0, 1) := dk_42 (dk_at dksX6_orders_3 8 rfl rfl)
theorem dX6_orders_77 : decode cX6_orders 77 = .ok (.getfield 125, 3) := dk_180 0 125 (dk_at dksX6_orders_3 9 rfl rfl)
theorem dX6_orders_80 : decode cX6_orders 80 = .ok (.aload_n 0, 1) := dk_42 (dk_at dksX6_orders_3 12 rfl rfl)
theorem dX6_orders_81 : decode cX6_orders 81 = .ok (.getfield 128, 3) := dk_180 0 128 (dk_at dksX6_orders_3 13 rfl rfl)
theorem dX6_orders_84 : decode cX6_orders 84 = .ok (.if_icmp .ge 28, 3) := dk_162 0 28 (dk_at dksX6_orders_3 16 rfl rfl)
theorem dX6_orders_87 : decode cX6_orders 87 = .ok (.aload_n 0, 1) := dk_42 (dk_at dksX6_orders_3 19 rfl rfl)
theorem dX6_orders_88 : decode cX6_orders 88 = .ok (.bipush 59, 2) := dk_16 59 (dk_at dksX6_orders_3 20 rfl rfl)
theorem dX6_orders_90 : decode cX6_orders 90 = .ok (.invokevirtual 215, 3) := dk_182 0 215 (dk_at dksX6_orders_4 0 rfl rfl)
theorem dX6_orders_93 : decode cX6_orders 93 = .ok (.ifCond .eq 14, 3) := dk_153 0 14 (dk_at dksX6_orders_4 3 rfl rfl)
theorem dX6_orders_96 : decode cX6_orders 96 = .ok (.aload_n 0, 1) := dk_42 (dk_at dksX6_orders_4 6 rfl rfl)
theorem dX6_orders_97 : decode cX6_orders 97 = .ok (.invokevirtual 275, 3) := dk_182 1 19 (dk_at dksX6_orders_4 7 rfl rfl)
theorem dX6_orders_100 : decode cX6_orders 100 = .ok (.ifCond .eq 7, 3) := dk_153 0 7 (dk_at dksX6_orders_4 10 rfl rfl)
theorem dX6_orders_103 : decode cX6_orders 103 = .ok (.iconst 1, 1) := dk_4 (dk_at dksX6_orders_4 13 rfl rfl)
theorem dX6_orders_104 : decode cX6_orders 104 = .ok (.goto 4, 3) := dk_167 0 4 (dk_at dksX6_orders_4 14 rfl rfl)
theorem dX6_orders_107 : decode cX6_orders 107 = .ok (.iconst 0, 1) := dk_3 (dk_at dksX6_orders_4 17 rfl rfl)
theorem dX6_orders_108 : decode cX6_orders 108 = .ok (.istore_n 2, 1) := dk_61 (dk_at dksX6_orders_4 18 rfl rfl)
theorem dX6_orders_109 : decode cX6_orders 109 = .ok (.goto (-37), 3) := dk_167 255 219 (dk_at dksX6_orders_4 19 rfl rfl)
theorem dX6_orders_112 : decode cX6_orders 112 = .ok (.aload_n 0, 1) := dk_42 (dk_at dksX6_orders_4 22 rfl rfl)
theorem dX6_orders_113 : decode cX6_orders 113 = .ok (.iconst 0, 1) := dk_3 (dk_at dksX6_orders_4 23 rfl rfl)
theorem dX6_orders_114 : decode cX6_orders 114 = .ok (.putfield 117, 3) := dk_181 0 117 (dk_at dksX6_orders_5 0 rfl rfl)
theorem dX6_orders_117 : decode cX6_orders 117 = .ok (.iload_n 2, 1) := dk_28 (dk_at dksX6_orders_5 3 rfl rfl)
theorem dX6_orders_118 : decode cX6_orders 118 = .ok (.ifCond .eq 8, 3) := dk_153 0 8 (dk_at dksX6_orders_5 4 rfl rfl)
theorem dX6_orders_121 : decode cX6_orders 121 = .ok (.aload_n 0, 1) := dk_42 (dk_at dksX6_orders_5 7 rfl rfl)
theorem dX6_orders_122 : decode cX6_orders 122 = .ok (.getfield 256, 3) := dk_180 1 0 (dk_at dksX6_orders_5 8 rfl rfl)
theorem dX6_orders_125 : decode cX6_orders 125 = .ok (.ireturn, 1) := dk_172 (dk_at dksX6_orders_5 11 rfl rfl)
theorem dX6_orders_126 : decode cX6_orders 126 = .ok (.aload_n 0, 1) := dk_42 (dk_at dksX6_orders_5 12 rfl rfl)
theorem dX6_orders_127 : decode cX6_orders 127 = .ok (.getfield 13, 3) := dk_180 0 13 (dk_at dksX6_orders_5 13 rfl rfl)
theorem dX6_orders_130 : decode cX6_orders 130 = .ok (.aload_n 0, 1) := dk_42 (dk_at dksX6_orders_5 16 rfl rfl)
theorem dX6_orders_131 : decode cX6_orders 131 = .ok (.getfield 7, 3) := dk_180 0 7 (dk_at dksX6_orders_5 17 rfl rfl)
theorem dX6_orders_134 : decode cX6_orders 134 = .ok (.invokestatic 271, 3) := dk_184 1 15 (dk_at dksX6_orders_5 20 rfl rfl)
theorem dX6_orders_137 : decode cX6_orders 137 = .ok (.iconst 0, 1) := dk_3 (dk_at dksX6_orders_5 23 rfl rfl)
theorem dX6_orders_138 : decode cX6_orders 138 = .ok (.istore_n 3, 1) := dk_62 (dk_at dksX6_orders_6 0 rfl rfl)
theorem dX6_orders_139 : decode cX6_orders 139 = .ok (.iload_n 3, 1) := dk_29 (dk_at dksX6_orders_6 1 rfl rfl)
theorem dX6_orders_140 : decode cX6_orders 140 = .ok (.bipush 96, 2) := dk_16 96 (dk_at dksX6_orders_6 2 rfl rfl)
theorem dX6_orders_142 : decode cX6_orders 142 = .ok (.if_icmp .ge 21, 3) := dk_162 0 21 (dk_at dksX6_orders_6 4 rfl rfl)
theorem dX6_orders_145 : decode cX6_orders 145 = .ok (.aload_n 0, 1) := dk_42 (dk_at dksX6_orders_6 7 rfl rfl)
theorem dX6_orders_146 : decode cX6_orders 146 = .ok (.getfield 19, 3) := dk_180 0 19 (dk_at dksX6_orders_6 8 rfl rfl)
theorem dX6_orders_149 : decode cX6_orders 149 = .ok (.iload_n 3, 1) := dk_29 (dk_at dksX6_orders_6 11 rfl rfl)
theorem dX6_orders_150 : decode cX6_orders 150 = .ok (.aload_n 0, 1) := dk_42 (dk_at dksX6_orders_6 12 rfl rfl)
theorem dX6_orders_151 : decode cX6_orders 151 = .ok (.getfield 22, 3) := dk_180 0 22 (dk_at dksX6_orders_6 13 rfl rfl)
theorem dX6_orders_154 : decode cX6_orders 154 = .ok (.iload_n 3, 1) := dk_29 (dk_at dksX6_orders_6 16 rfl rfl)
theorem dX6_orders_155 : decode cX6_orders 155 = .ok (.iaload, 1) := dk_46 (dk_at dksX6_orders_6 17 rfl rfl)
theorem dX6_orders_156 : decode cX6_orders 156 = .ok (.iastore, 1) := dk_79 (dk_at dksX6_orders_6 18 rfl rfl)
theorem dX6_orders_157 : decode cX6_orders 157 = .ok (.iinc 3 1, 3) := dk_132 3 1 (dk_at dksX6_orders_6 19 rfl rfl)
theorem dX6_orders_160 : decode cX6_orders 160 = .ok (.goto (-21), 3) := dk_167 255 235 (dk_at dksX6_orders_7 0 rfl rfl)
theorem dX6_orders_163 : decode cX6_orders 163 = .ok (.aload_n 0, 1) := dk_42 (dk_at dksX6_orders_7 3 rfl rfl)
theorem dX6_orders_164 : decode cX6_orders 164 = .ok (.getfield 135, 3) := dk_180 0 135 (dk_at dksX6_orders_7 4 rfl rfl)
theorem dX6_orders_167 : decode cX6_orders 167 = .ok (.ireturn, 1) := dk_172 (dk_at dksX6_orders_7 7 rfl rfl)
abbrev cX6_copies : ByteArray := prog_20_method_8_code
def yX6_copies : MethodName := ⟨RX6, "copies", "([I[I)V"⟩
def dkwX6_copies_0 : List UInt8 := [3, 61, 28, 17, 1, 59, 162, 0, 15, 43, 28, 42, 28, 46, 79, 132, 2, 1, 167, 255, 240, 177]
abbrev dktX6_copies_0 : List UInt8 := dkwX6_copies_0 ++ []
theorem dksX6_copies_0 : cX6_copies.data.toList.drop 0 = dktX6_copies_0 := by decide +kernel
theorem dX6_copies_0 : decode cX6_copies 0 = .ok (.iconst 0, 1) := dk_3 (dk_at dksX6_copies_0 0 rfl rfl)
theorem dX6_copies_1 : decode cX6_copies 1 = .ok (.istore_n 2, 1) := dk_61 (dk_at dksX6_copies_0 1 rfl rfl)
theorem dX6_copies_2 : decode cX6_copies 2 = .ok (.iload_n 2, 1) := dk_28 (dk_at dksX6_copies_0 2 rfl rfl)
theorem dX6_copies_3 : decode cX6_copies 3 = .ok (.sipush 315, 3) := dk_17 1 59 (dk_at dksX6_copies_0 3 rfl rfl)
theorem dX6_copies_6 : decode cX6_copies 6 = .ok (.if_icmp .ge 15, 3) := dk_162 0 15 (dk_at dksX6_copies_0 6 rfl rfl)
theorem dX6_copies_9 : decode cX6_copies 9 = .ok (.aload_n 1, 1) := dk_43 (dk_at dksX6_copies_0 9 rfl rfl)
theorem dX6_copies_10 : decode cX6_copies 10 = .ok (.iload_n 2, 1) := dk_28 (dk_at dksX6_copies_0 10 rfl rfl)
theorem dX6_copies_11 : decode cX6_copies 11 = .ok (.aload_n 0, 1) := dk_42 (dk_at dksX6_copies_0 11 rfl rfl)
theorem dX6_copies_12 : decode cX6_copies 12 = .ok (.iload_n 2, 1) := dk_28 (dk_at dksX6_copies_0 12 rfl rfl)
theorem dX6_copies_13 : decode cX6_copies 13 = .ok (.iaload, 1) := dk_46 (dk_at dksX6_copies_0 13 rfl rfl)
theorem dX6_copies_14 : decode cX6_copies 14 = .ok (.iastore, 1) := dk_79 (dk_at dksX6_copies_0 14 rfl rfl)
theorem dX6_copies_15 : decode cX6_copies 15 = .ok (.iinc 2 1, 3) := dk_132 2 1 (dk_at dksX6_copies_0 15 rfl rfl)
theorem dX6_copies_18 : decode cX6_copies 18 = .ok (.goto (-16), 3) := dk_167 255 240 (dk_at dksX6_copies_0 18 rfl rfl)
theorem dX6_copies_21 : decode cX6_copies 21 = .ok (.return_, 1) := dk_177 (dk_at dksX6_copies_0 21 rfl rfl)
abbrev cX6_readsLine : ByteArray := prog_20_method_55_code
def yX6_readsLine : MethodName := ⟨RX6, "readsLine", "()Z"⟩
def dkwX6_readsLine_5 : List UInt8 := [182, 1, 12, 172]
abbrev dktX6_readsLine_5 : List UInt8 := dkwX6_readsLine_5 ++ []
def dkwX6_readsLine_4 : List UInt8 := [160, 0, 10, 42, 182, 1, 6, 167, 0, 20, 27, 16, 126, 160, 0, 10, 42, 182, 1, 9, 167, 0, 7, 42]
abbrev dktX6_readsLine_4 : List UInt8 := dkwX6_readsLine_4 ++ dktX6_readsLine_5
def dkwX6_readsLine_3 : List UInt8 := [182, 0, 144, 153, 0, 8, 42, 182, 1, 3, 172, 42, 42, 180, 0, 125, 4, 96, 181, 0, 125, 27, 16, 42]
abbrev dktX6_readsLine_3 : List UInt8 := dkwX6_readsLine_3 ++ dktX6_readsLine_4
def dkwX6_readsLine_2 : List UInt8 := [160, 0, 13, 42, 7, 42, 180, 0, 125, 182, 0, 138, 172, 42, 42, 180, 1, 0, 4, 96, 181, 1, 0, 42]
abbrev dktX6_readsLine_2 : List UInt8 := dkwX6_readsLine_2 ++ dktX6_readsLine_3
def dkwX6_readsLine_1 : List UInt8 := [27, 16, 33, 159, 0, 13, 42, 4, 42, 180, 0, 125, 182, 0, 138, 172, 42, 180, 1, 0, 16, 16]
abbrev dktX6_readsLine_1 : List UInt8 := dkwX6_readsLine_1 ++ dktX6_readsLine_2
def dkwX6_readsLine_0 : List UInt8 := [42, 182, 0, 131, 60, 42, 182, 0, 144, 154, 0, 31, 27, 16, 42, 159, 0, 25, 27, 16, 126, 159, 0, 19]
abbrev dktX6_readsLine_0 : List UInt8 := dkwX6_readsLine_0 ++ dktX6_readsLine_1
theorem dksX6_readsLine_0 : cX6_readsLine.data.toList.drop 0 = dktX6_readsLine_0 := by decide +kernel
theorem dksX6_readsLine_1 : cX6_readsLine.data.toList.drop 24 = dktX6_readsLine_1 := dk_seg dksX6_readsLine_0 24 rfl rfl
theorem dksX6_readsLine_2 : cX6_readsLine.data.toList.drop 46 = dktX6_readsLine_2 := dk_seg dksX6_readsLine_1 22 rfl rfl
theorem dksX6_readsLine_3 : cX6_readsLine.data.toList.drop 70 = dktX6_readsLine_3 := dk_seg dksX6_readsLine_2 24 rfl rfl
theorem dksX6_readsLine_4 : cX6_readsLine.data.toList.drop 94 = dktX6_readsLine_4 := dk_seg dksX6_readsLine_3 24 rfl rfl
theorem dksX6_readsLine_5 : cX6_readsLine.data.toList.drop 118 = dktX6_readsLine_5 := dk_seg dksX6_readsLine_4 24 rfl rfl
theorem dX6_readsLine_0 : decode cX6_readsLine 0 = .ok (.aload_n 0, 1) := dk_42 (dk_at dksX6_readsLine_0 0 rfl rfl)
theorem dX6_readsLine_1 : decode cX6_readsLine 1 = .ok (.invokevirtual 131, 3) := dk_182 0 131 (dk_at dksX6_readsLine_0 1 rfl rfl)
theorem dX6_readsLine_4 : decode cX6_readsLine 4 = .ok (.istore_n 1, 1) := dk_60 (dk_at dksX6_readsLine_0 4 rfl rfl)
theorem dX6_readsLine_5 : decode cX6_readsLine 5 = .ok (.aload_n 0, 1) := dk_42 (dk_at dksX6_readsLine_0 5 rfl rfl)
theorem dX6_readsLine_6 : decode cX6_readsLine 6 = .ok (.invokevirtual 144, 3) := dk_182 0 144 (dk_at dksX6_readsLine_0 6 rfl rfl)
theorem dX6_readsLine_9 : decode cX6_readsLine 9 = .ok (.ifCond .ne 31, 3) := dk_154 0 31 (dk_at dksX6_readsLine_0 9 rfl rfl)
theorem dX6_readsLine_12 : decode cX6_readsLine 12 = .ok (.iload_n 1, 1) := dk_27 (dk_at dksX6_readsLine_0 12 rfl rfl)
theorem dX6_readsLine_13 : decode cX6_readsLine 13 = .ok (.bipush 42, 2) := dk_16 42 (dk_at dksX6_readsLine_0 13 rfl rfl)
theorem dX6_readsLine_15 : decode cX6_readsLine 15 = .ok (.if_icmp .eq 25, 3) := dk_159 0 25 (dk_at dksX6_readsLine_0 15 rfl rfl)
theorem dX6_readsLine_18 : decode cX6_readsLine 18 = .ok (.iload_n 1, 1) := dk_27 (dk_at dksX6_readsLine_0 18 rfl rfl)
theorem dX6_readsLine_19 : decode cX6_readsLine 19 = .ok (.bipush 126, 2) := dk_16 126 (dk_at dksX6_readsLine_0 19 rfl rfl)
theorem dX6_readsLine_21 : decode cX6_readsLine 21 = .ok (.if_icmp .eq 19, 3) := dk_159 0 19 (dk_at dksX6_readsLine_0 21 rfl rfl)
theorem dX6_readsLine_24 : decode cX6_readsLine 24 = .ok (.iload_n 1, 1) := dk_27 (dk_at dksX6_readsLine_1 0 rfl rfl)
theorem dX6_readsLine_25 : decode cX6_readsLine 25 = .ok (.bipush 33, 2) := dk_16 33 (dk_at dksX6_readsLine_1 1 rfl rfl)
theorem dX6_readsLine_27 : decode cX6_readsLine 27 = .ok (.if_icmp .eq 13, 3) := dk_159 0 13 (dk_at dksX6_readsLine_1 3 rfl rfl)
theorem dX6_readsLine_30 : decode cX6_readsLine 30 = .ok (.aload_n 0, 1) := dk_42 (dk_at dksX6_readsLine_1 6 rfl rfl)
theorem dX6_readsLine_31 : decode cX6_readsLine 31 = .ok (.iconst 1, 1) := dk_4 (dk_at dksX6_readsLine_1 7 rfl rfl)
theorem dX6_readsLine_32 : decode cX6_readsLine 32 = .ok (.aload_n 0, 1) := dk_42 (dk_at dksX6_readsLine_1 8 rfl rfl)
theorem dX6_readsLine_33 : decode cX6_readsLine 33 = .ok (.getfield 125, 3) := dk_180 0 125 (dk_at dksX6_readsLine_1 9 rfl rfl)
theorem dX6_readsLine_36 : decode cX6_readsLine 36 = .ok (.invokevirtual 138, 3) := dk_182 0 138 (dk_at dksX6_readsLine_1 12 rfl rfl)
theorem dX6_readsLine_39 : decode cX6_readsLine 39 = .ok (.ireturn, 1) := dk_172 (dk_at dksX6_readsLine_1 15 rfl rfl)
theorem dX6_readsLine_40 : decode cX6_readsLine 40 = .ok (.aload_n 0, 1) := dk_42 (dk_at dksX6_readsLine_1 16 rfl rfl)
theorem dX6_readsLine_41 : decode cX6_readsLine 41 = .ok (.getfield 256, 3) := dk_180 1 0 (dk_at dksX6_readsLine_1 17 rfl rfl)
theorem dX6_readsLine_44 : decode cX6_readsLine 44 = .ok (.bipush 16, 2) := dk_16 16 (dk_at dksX6_readsLine_1 20 rfl rfl)
theorem dX6_readsLine_46 : decode cX6_readsLine 46 = .ok (.if_icmp .ne 13, 3) := dk_160 0 13 (dk_at dksX6_readsLine_2 0 rfl rfl)
theorem dX6_readsLine_49 : decode cX6_readsLine 49 = .ok (.aload_n 0, 1) := dk_42 (dk_at dksX6_readsLine_2 3 rfl rfl)
theorem dX6_readsLine_50 : decode cX6_readsLine 50 = .ok (.iconst 4, 1) := dk_7 (dk_at dksX6_readsLine_2 4 rfl rfl)
theorem dX6_readsLine_51 : decode cX6_readsLine 51 = .ok (.aload_n 0, 1) := dk_42 (dk_at dksX6_readsLine_2 5 rfl rfl)
theorem dX6_readsLine_52 : decode cX6_readsLine 52 = .ok (.getfield 125, 3) := dk_180 0 125 (dk_at dksX6_readsLine_2 6 rfl rfl)
theorem dX6_readsLine_55 : decode cX6_readsLine 55 = .ok (.invokevirtual 138, 3) := dk_182 0 138 (dk_at dksX6_readsLine_2 9 rfl rfl)
theorem dX6_readsLine_58 : decode cX6_readsLine 58 = .ok (.ireturn, 1) := dk_172 (dk_at dksX6_readsLine_2 12 rfl rfl)
theorem dX6_readsLine_59 : decode cX6_readsLine 59 = .ok (.aload_n 0, 1) := dk_42 (dk_at dksX6_readsLine_2 13 rfl rfl)
theorem dX6_readsLine_60 : decode cX6_readsLine 60 = .ok (.aload_n 0, 1) := dk_42 (dk_at dksX6_readsLine_2 14 rfl rfl)
theorem dX6_readsLine_61 : decode cX6_readsLine 61 = .ok (.getfield 256, 3) := dk_180 1 0 (dk_at dksX6_readsLine_2 15 rfl rfl)
theorem dX6_readsLine_64 : decode cX6_readsLine 64 = .ok (.iconst 1, 1) := dk_4 (dk_at dksX6_readsLine_2 18 rfl rfl)
theorem dX6_readsLine_65 : decode cX6_readsLine 65 = .ok (.iadd, 1) := dk_96 (dk_at dksX6_readsLine_2 19 rfl rfl)
theorem dX6_readsLine_66 : decode cX6_readsLine 66 = .ok (.putfield 256, 3) := dk_181 1 0 (dk_at dksX6_readsLine_2 20 rfl rfl)
theorem dX6_readsLine_69 : decode cX6_readsLine 69 = .ok (.aload_n 0, 1) := dk_42 (dk_at dksX6_readsLine_2 23 rfl rfl)
theorem dX6_readsLine_70 : decode cX6_readsLine 70 = .ok (.invokevirtual 144, 3) := dk_182 0 144 (dk_at dksX6_readsLine_3 0 rfl rfl)
theorem dX6_readsLine_73 : decode cX6_readsLine 73 = .ok (.ifCond .eq 8, 3) := dk_153 0 8 (dk_at dksX6_readsLine_3 3 rfl rfl)
theorem dX6_readsLine_76 : decode cX6_readsLine 76 = .ok (.aload_n 0, 1) := dk_42 (dk_at dksX6_readsLine_3 6 rfl rfl)
theorem dX6_readsLine_77 : decode cX6_readsLine 77 = .ok (.invokevirtual 259, 3) := dk_182 1 3 (dk_at dksX6_readsLine_3 7 rfl rfl)
theorem dX6_readsLine_80 : decode cX6_readsLine 80 = .ok (.ireturn, 1) := dk_172 (dk_at dksX6_readsLine_3 10 rfl rfl)
theorem dX6_readsLine_81 : decode cX6_readsLine 81 = .ok (.aload_n 0, 1) := dk_42 (dk_at dksX6_readsLine_3 11 rfl rfl)
theorem dX6_readsLine_82 : decode cX6_readsLine 82 = .ok (.aload_n 0, 1) := dk_42 (dk_at dksX6_readsLine_3 12 rfl rfl)
theorem dX6_readsLine_83 : decode cX6_readsLine 83 = .ok (.getfield 125, 3) := dk_180 0 125 (dk_at dksX6_readsLine_3 13 rfl rfl)
theorem dX6_readsLine_86 : decode cX6_readsLine 86 = .ok (.iconst 1, 1) := dk_4 (dk_at dksX6_readsLine_3 16 rfl rfl)
theorem dX6_readsLine_87 : decode cX6_readsLine 87 = .ok (.iadd, 1) := dk_96 (dk_at dksX6_readsLine_3 17 rfl rfl)
theorem dX6_readsLine_88 : decode cX6_readsLine 88 = .ok (.putfield 125, 3) := dk_181 0 125 (dk_at dksX6_readsLine_3 18 rfl rfl)
theorem dX6_readsLine_91 : decode cX6_readsLine 91 = .ok (.iload_n 1, 1) := dk_27 (dk_at dksX6_readsLine_3 21 rfl rfl)
theorem dX6_readsLine_92 : decode cX6_readsLine 92 = .ok (.bipush 42, 2) := dk_16 42 (dk_at dksX6_readsLine_3 22 rfl rfl)
theorem dX6_readsLine_94 : decode cX6_readsLine 94 = .ok (.if_icmp .ne 10, 3) := dk_160 0 10 (dk_at dksX6_readsLine_4 0 rfl rfl)
theorem dX6_readsLine_97 : decode cX6_readsLine 97 = .ok (.aload_n 0, 1) := dk_42 (dk_at dksX6_readsLine_4 3 rfl rfl)
theorem dX6_readsLine_98 : decode cX6_readsLine 98 = .ok (.invokevirtual 262, 3) := dk_182 1 6 (dk_at dksX6_readsLine_4 4 rfl rfl)
theorem dX6_readsLine_101 : decode cX6_readsLine 101 = .ok (.goto 20, 3) := dk_167 0 20 (dk_at dksX6_readsLine_4 7 rfl rfl)
theorem dX6_readsLine_104 : decode cX6_readsLine 104 = .ok (.iload_n 1, 1) := dk_27 (dk_at dksX6_readsLine_4 10 rfl rfl)
theorem dX6_readsLine_105 : decode cX6_readsLine 105 = .ok (.bipush 126, 2) := dk_16 126 (dk_at dksX6_readsLine_4 11 rfl rfl)
theorem dX6_readsLine_107 : decode cX6_readsLine 107 = .ok (.if_icmp .ne 10, 3) := dk_160 0 10 (dk_at dksX6_readsLine_4 13 rfl rfl)
theorem dX6_readsLine_110 : decode cX6_readsLine 110 = .ok (.aload_n 0, 1) := dk_42 (dk_at dksX6_readsLine_4 16 rfl rfl)
theorem dX6_readsLine_111 : decode cX6_readsLine 111 = .ok (.invokevirtual 265, 3) := dk_182 1 9 (dk_at dksX6_readsLine_4 17 rfl rfl)
theorem dX6_readsLine_114 : decode cX6_readsLine 114 = .ok (.goto 7, 3) := dk_167 0 7 (dk_at dksX6_readsLine_4 20 rfl rfl)
theorem dX6_readsLine_117 : decode cX6_readsLine 117 = .ok (.aload_n 0, 1) := dk_42 (dk_at dksX6_readsLine_4 23 rfl rfl)
theorem dX6_readsLine_118 : decode cX6_readsLine 118 = .ok (.invokevirtual 268, 3) := dk_182 1 12 (dk_at dksX6_readsLine_5 0 rfl rfl)
theorem dX6_readsLine_121 : decode cX6_readsLine 121 = .ok (.ireturn, 1) := dk_172 (dk_at dksX6_readsLine_5 3 rfl rfl)
abbrev cX6_readsThing : ByteArray := prog_20_method_51_code
def yX6_readsThing : MethodName := ⟨RX6, "readsThing", "()Z"⟩
def dkwX6_readsThing_7 : List UInt8 := [167, 0, 6, 17, 1, 8, 28, 96, 42, 180, 0, 141, 79, 4, 172]
abbrev dktX6_readsThing_7 : List UInt8 := dkwX6_readsThing_7 ++ []
def dkwX6_readsThing_6 : List UInt8 := [17, 39, 15, 182, 0, 247, 154, 0, 5, 3, 172, 42, 180, 0, 7, 29, 16, 61, 160, 0, 9, 17, 0, 240]
abbrev dktX6_readsThing_6 : List UInt8 := dkwX6_readsThing_6 ++ dktX6_readsThing_7
def dkwX6_readsThing_5 : List UInt8 := [17, 0, 216, 28, 96, 42, 180, 0, 250, 79, 42, 180, 0, 7, 17, 1, 32, 28, 96, 3, 79, 4, 172, 42]
abbrev dktX6_readsThing_5 : List UInt8 := dkwX6_readsThing_5 ++ dktX6_readsThing_6
def dkwX6_readsThing_4 : List UInt8 := [182, 0, 253, 154, 0, 5, 3, 172, 42, 180, 0, 7, 17, 0, 192, 28, 96, 4, 79, 42, 180, 0, 7]
abbrev dktX6_readsThing_4 : List UInt8 := dkwX6_readsThing_4 ++ dktX6_readsThing_5
def dkwX6_readsThing_3 : List UInt8 := [16, 7, 27, 182, 0, 138, 172, 42, 42, 180, 0, 125, 4, 96, 181, 0, 125, 29, 16, 64, 160, 0, 50, 42]
abbrev dktX6_readsThing_3 : List UInt8 := dkwX6_readsThing_3 ++ dktX6_readsThing_4
def dkwX6_readsThing_2 : List UInt8 := [42, 180, 0, 125, 182, 0, 138, 172, 29, 16, 64, 159, 0, 19, 42, 28, 182, 0, 114, 154, 0, 11, 42]
abbrev dktX6_readsThing_2 : List UInt8 := dkwX6_readsThing_2 ++ dktX6_readsThing_3
def dkwX6_readsThing_1 : List UInt8 := [182, 0, 131, 62, 29, 16, 64, 159, 0, 25, 29, 16, 61, 159, 0, 19, 29, 16, 43, 159, 0, 13, 42, 4]
abbrev dktX6_readsThing_1 : List UInt8 := dkwX6_readsThing_1 ++ dktX6_readsThing_2
def dkwX6_readsThing_0 : List UInt8 := [42, 180, 0, 125, 60, 42, 16, 23, 182, 0, 247, 154, 0, 5, 3, 172, 42, 180, 0, 141, 61, 42]
abbrev dktX6_readsThing_0 : List UInt8 := dkwX6_readsThing_0 ++ dktX6_readsThing_1
theorem dksX6_readsThing_0 : cX6_readsThing.data.toList.drop 0 = dktX6_readsThing_0 := by decide +kernel
theorem dksX6_readsThing_1 : cX6_readsThing.data.toList.drop 22 = dktX6_readsThing_1 := dk_seg dksX6_readsThing_0 22 rfl rfl
theorem dksX6_readsThing_2 : cX6_readsThing.data.toList.drop 46 = dktX6_readsThing_2 := dk_seg dksX6_readsThing_1 24 rfl rfl
theorem dksX6_readsThing_3 : cX6_readsThing.data.toList.drop 69 = dktX6_readsThing_3 := dk_seg dksX6_readsThing_2 23 rfl rfl
theorem dksX6_readsThing_4 : cX6_readsThing.data.toList.drop 93 = dktX6_readsThing_4 := dk_seg dksX6_readsThing_3 24 rfl rfl
theorem dksX6_readsThing_5 : cX6_readsThing.data.toList.drop 116 = dktX6_readsThing_5 := dk_seg dksX6_readsThing_4 23 rfl rfl
theorem dksX6_readsThing_6 : cX6_readsThing.data.toList.drop 140 = dktX6_readsThing_6 := dk_seg dksX6_readsThing_5 24 rfl rfl
theorem dksX6_readsThing_7 : cX6_readsThing.data.toList.drop 164 = dktX6_readsThing_7 := dk_seg dksX6_readsThing_6 24 rfl rfl
theorem dX6_readsThing_0 : decode cX6_readsThing 0 = .ok (.aload_n 0, 1) := dk_42 (dk_at dksX6_readsThing_0 0 rfl rfl)
theorem dX6_readsThing_1 : decode cX6_readsThing 1 = .ok (.getfield 125, 3) := dk_180 0 125 (dk_at dksX6_readsThing_0 1 rfl rfl)
theorem dX6_readsThing_4 : decode cX6_readsThing 4 = .ok (.istore_n 1, 1) := dk_60 (dk_at dksX6_readsThing_0 4 rfl rfl)
theorem dX6_readsThing_5 : decode cX6_readsThing 5 = .ok (.aload_n 0, 1) := dk_42 (dk_at dksX6_readsThing_0 5 rfl rfl)
theorem dX6_readsThing_6 : decode cX6_readsThing 6 = .ok (.bipush 23, 2) := dk_16 23 (dk_at dksX6_readsThing_0 6 rfl rfl)
theorem dX6_readsThing_8 : decode cX6_readsThing 8 = .ok (.invokevirtual 247, 3) := dk_182 0 247 (dk_at dksX6_readsThing_0 8 rfl rfl)
theorem dX6_readsThing_11 : decode cX6_readsThing 11 = .ok (.ifCond .ne 5, 3) := dk_154 0 5 (dk_at dksX6_readsThing_0 11 rfl rfl)
theorem dX6_readsThing_14 : decode cX6_readsThing 14 = .ok (.iconst 0, 1) := dk_3 (dk_at dksX6_readsThing_0 14 rfl rfl)
theorem dX6_readsThing_15 : decode cX6_readsThing 15 = .ok (.ireturn, 1) := dk_172 (dk_at dksX6_readsThing_0 15 rfl rfl)
theorem dX6_readsThing_16 : decode cX6_readsThing 16 = .ok (.aload_n 0, 1) := dk_42 (dk_at dksX6_readsThing_0 16 rfl rfl)
theorem dX6_readsThing_17 : decode cX6_readsThing 17 = .ok (.getfield 141, 3) := dk_180 0 141 (dk_at dksX6_readsThing_0 17 rfl rfl)
theorem dX6_readsThing_20 : decode cX6_readsThing 20 = .ok (.istore_n 2, 1) := dk_61 (dk_at dksX6_readsThing_0 20 rfl rfl)
theorem dX6_readsThing_21 : decode cX6_readsThing 21 = .ok (.aload_n 0, 1) := dk_42 (dk_at dksX6_readsThing_0 21 rfl rfl)
theorem dX6_readsThing_22 : decode cX6_readsThing 22 = .ok (.invokevirtual 131, 3) := dk_182 0 131 (dk_at dksX6_readsThing_1 0 rfl rfl)
theorem dX6_readsThing_25 : decode cX6_readsThing 25 = .ok (.istore_n 3, 1) := dk_62 (dk_at dksX6_readsThing_1 3 rfl rfl)
theorem dX6_readsThing_26 : decode cX6_readsThing 26 = .ok (.iload_n 3, 1) := dk_29 (dk_at dksX6_readsThing_1 4 rfl rfl)
theorem dX6_readsThing_27 : decode cX6_readsThing 27 = .ok (.bipush 64, 2) := dk_16 64 (dk_at dksX6_readsThing_1 5 rfl rfl)
theorem dX6_readsThing_29 : decode cX6_readsThing 29 = .ok (.if_icmp .eq 25, 3) := dk_159 0 25 (dk_at dksX6_readsThing_1 7 rfl rfl)
theorem dX6_readsThing_32 : decode cX6_readsThing 32 = .ok (.iload_n 3, 1) := dk_29 (dk_at dksX6_readsThing_1 10 rfl rfl)
theorem dX6_readsThing_33 : decode cX6_readsThing 33 = .ok (.bipush 61, 2) := dk_16 61 (dk_at dksX6_readsThing_1 11 rfl rfl)
theorem dX6_readsThing_35 : decode cX6_readsThing 35 = .ok (.if_icmp .eq 19, 3) := dk_159 0 19 (dk_at dksX6_readsThing_1 13 rfl rfl)
theorem dX6_readsThing_38 : decode cX6_readsThing 38 = .ok (.iload_n 3, 1) := dk_29 (dk_at dksX6_readsThing_1 16 rfl rfl)
theorem dX6_readsThing_39 : decode cX6_readsThing 39 = .ok (.bipush 43, 2) := dk_16 43 (dk_at dksX6_readsThing_1 17 rfl rfl)
theorem dX6_readsThing_41 : decode cX6_readsThing 41 = .ok (.if_icmp .eq 13, 3) := dk_159 0 13 (dk_at dksX6_readsThing_1 19 rfl rfl)
theorem dX6_readsThing_44 : decode cX6_readsThing 44 = .ok (.aload_n 0, 1) := dk_42 (dk_at dksX6_readsThing_1 22 rfl rfl)
theorem dX6_readsThing_45 : decode cX6_readsThing 45 = .ok (.iconst 1, 1) := dk_4 (dk_at dksX6_readsThing_1 23 rfl rfl)
theorem dX6_readsThing_46 : decode cX6_readsThing 46 = .ok (.aload_n 0, 1) := dk_42 (dk_at dksX6_readsThing_2 0 rfl rfl)
theorem dX6_readsThing_47 : decode cX6_readsThing 47 = .ok (.getfield 125, 3) := dk_180 0 125 (dk_at dksX6_readsThing_2 1 rfl rfl)
theorem dX6_readsThing_50 : decode cX6_readsThing 50 = .ok (.invokevirtual 138, 3) := dk_182 0 138 (dk_at dksX6_readsThing_2 4 rfl rfl)
theorem dX6_readsThing_53 : decode cX6_readsThing 53 = .ok (.ireturn, 1) := dk_172 (dk_at dksX6_readsThing_2 7 rfl rfl)
theorem dX6_readsThing_54 : decode cX6_readsThing 54 = .ok (.iload_n 3, 1) := dk_29 (dk_at dksX6_readsThing_2 8 rfl rfl)
theorem dX6_readsThing_55 : decode cX6_readsThing 55 = .ok (.bipush 64, 2) := dk_16 64 (dk_at dksX6_readsThing_2 9 rfl rfl)
theorem dX6_readsThing_57 : decode cX6_readsThing 57 = .ok (.if_icmp .eq 19, 3) := dk_159 0 19 (dk_at dksX6_readsThing_2 11 rfl rfl)
theorem dX6_readsThing_60 : decode cX6_readsThing 60 = .ok (.aload_n 0, 1) := dk_42 (dk_at dksX6_readsThing_2 14 rfl rfl)
theorem dX6_readsThing_61 : decode cX6_readsThing 61 = .ok (.iload_n 2, 1) := dk_28 (dk_at dksX6_readsThing_2 15 rfl rfl)
theorem dX6_readsThing_62 : decode cX6_readsThing 62 = .ok (.invokevirtual 114, 3) := dk_182 0 114 (dk_at dksX6_readsThing_2 16 rfl rfl)
theorem dX6_readsThing_65 : decode cX6_readsThing 65 = .ok (.ifCond .ne 11, 3) := dk_154 0 11 (dk_at dksX6_readsThing_2 19 rfl rfl)
theorem dX6_readsThing_68 : decode cX6_readsThing 68 = .ok (.aload_n 0, 1) := dk_42 (dk_at dksX6_readsThing_2 22 rfl rfl)
theorem dX6_readsThing_69 : decode cX6_readsThing 69 = .ok (.bipush 7, 2) := dk_16 7 (dk_at dksX6_readsThing_3 0 rfl rfl)
theorem dX6_readsThing_71 : decode cX6_readsThing 71 = .ok (.iload_n 1, 1) := dk_27 (dk_at dksX6_readsThing_3 2 rfl rfl)
theorem dX6_readsThing_72 : decode cX6_readsThing 72 = .ok (.invokevirtual 138, 3) := dk_182 0 138 (dk_at dksX6_readsThing_3 3 rfl rfl)
theorem dX6_readsThing_75 : decode cX6_readsThing 75 = .ok (.ireturn, 1) := dk_172 (dk_at dksX6_readsThing_3 6 rfl rfl)
theorem dX6_readsThing_76 : decode cX6_readsThing 76 = .ok (.aload_n 0, 1) := dk_42 (dk_at dksX6_readsThing_3 7 rfl rfl)
theorem dX6_readsThing_77 : decode cX6_readsThing 77 = .ok (.aload_n 0, 1) := dk_42 (dk_at dksX6_readsThing_3 8 rfl rfl)
theorem dX6_readsThing_78 : decode cX6_readsThing 78 = .ok (.getfield 125, 3) := dk_180 0 125 (dk_at dksX6_readsThing_3 9 rfl rfl)
theorem dX6_readsThing_81 : decode cX6_readsThing 81 = .ok (.iconst 1, 1) := dk_4 (dk_at dksX6_readsThing_3 12 rfl rfl)
theorem dX6_readsThing_82 : decode cX6_readsThing 82 = .ok (.iadd, 1) := dk_96 (dk_at dksX6_readsThing_3 13 rfl rfl)
theorem dX6_readsThing_83 : decode cX6_readsThing 83 = .ok (.putfield 125, 3) := dk_181 0 125 (dk_at dksX6_readsThing_3 14 rfl rfl)
theorem dX6_readsThing_86 : decode cX6_readsThing 86 = .ok (.iload_n 3, 1) := dk_29 (dk_at dksX6_readsThing_3 17 rfl rfl)
theorem dX6_readsThing_87 : decode cX6_readsThing 87 = .ok (.bipush 64, 2) := dk_16 64 (dk_at dksX6_readsThing_3 18 rfl rfl)
theorem dX6_readsThing_89 : decode cX6_readsThing 89 = .ok (.if_icmp .ne 50, 3) := dk_160 0 50 (dk_at dksX6_readsThing_3 20 rfl rfl)
theorem dX6_readsThing_92 : decode cX6_readsThing 92 = .ok (.aload_n 0, 1) := dk_42 (dk_at dksX6_readsThing_3 23 rfl rfl)
theorem dX6_readsThing_93 : decode cX6_readsThing 93 = .ok (.invokevirtual 253, 3) := dk_182 0 253 (dk_at dksX6_readsThing_4 0 rfl rfl)
theorem dX6_readsThing_96 : decode cX6_readsThing 96 = .ok (.ifCond .ne 5, 3) := dk_154 0 5 (dk_at dksX6_readsThing_4 3 rfl rfl)
theorem dX6_readsThing_99 : decode cX6_readsThing 99 = .ok (.iconst 0, 1) := dk_3 (dk_at dksX6_readsThing_4 6 rfl rfl)
theorem dX6_readsThing_100 : decode cX6_readsThing 100 = .ok (.ireturn, 1) := dk_172 (dk_at dksX6_readsThing_4 7 rfl rfl)
theorem dX6_readsThing_101 : decode cX6_readsThing 101 = .ok (.aload_n 0, 1) := dk_42 (dk_at dksX6_readsThing_4 8 rfl rfl)
theorem dX6_readsThing_102 : decode cX6_readsThing 102 = .ok (.getfield 7, 3) := dk_180 0 7 (dk_at dksX6_readsThing_4 9 rfl rfl)
theorem dX6_readsThing_105 : decode cX6_readsThing 105 = .ok (.sipush 192, 3) := dk_17 0 192 (dk_at dksX6_readsThing_4 12 rfl rfl)
theorem dX6_readsThing_108 : decode cX6_readsThing 108 = .ok (.iload_n 2, 1) := dk_28 (dk_at dksX6_readsThing_4 15 rfl rfl)
theorem dX6_readsThing_109 : decode cX6_readsThing 109 = .ok (.iadd, 1) := dk_96 (dk_at dksX6_readsThing_4 16 rfl rfl)
theorem dX6_readsThing_110 : decode cX6_readsThing 110 = .ok (.iconst 1, 1) := dk_4 (dk_at dksX6_readsThing_4 17 rfl rfl)
theorem dX6_readsThing_111 : decode cX6_readsThing 111 = .ok (.iastore, 1) := dk_79 (dk_at dksX6_readsThing_4 18 rfl rfl)
theorem dX6_readsThing_112 : decode cX6_readsThing 112 = .ok (.aload_n 0, 1) := dk_42 (dk_at dksX6_readsThing_4 19 rfl rfl)
theorem dX6_readsThing_113 : decode cX6_readsThing 113 = .ok (.getfield 7, 3) := dk_180 0 7 (dk_at dksX6_readsThing_4 20 rfl rfl)
theorem dX6_readsThing_116 : decode cX6_readsThing 116 = .ok (.sipush 216, 3) := dk_17 0 216 (dk_at dksX6_readsThing_5 0 rfl rfl)
theorem dX6_readsThing_119 : decode cX6_readsThing 119 = .ok (.iload_n 2, 1) := dk_28 (dk_at dksX6_readsThing_5 3 rfl rfl)
theorem dX6_readsThing_120 : decode cX6_readsThing 120 = .ok (.iadd, 1) := dk_96 (dk_at dksX6_readsThing_5 4 rfl rfl)
theorem dX6_readsThing_121 : decode cX6_readsThing 121 = .ok (.aload_n 0, 1) := dk_42 (dk_at dksX6_readsThing_5 5 rfl rfl)
theorem dX6_readsThing_122 : decode cX6_readsThing 122 = .ok (.getfield 250, 3) := dk_180 0 250 (dk_at dksX6_readsThing_5 6 rfl rfl)
theorem dX6_readsThing_125 : decode cX6_readsThing 125 = .ok (.iastore, 1) := dk_79 (dk_at dksX6_readsThing_5 9 rfl rfl)
theorem dX6_readsThing_126 : decode cX6_readsThing 126 = .ok (.aload_n 0, 1) := dk_42 (dk_at dksX6_readsThing_5 10 rfl rfl)
theorem dX6_readsThing_127 : decode cX6_readsThing 127 = .ok (.getfield 7, 3) := dk_180 0 7 (dk_at dksX6_readsThing_5 11 rfl rfl)
theorem dX6_readsThing_130 : decode cX6_readsThing 130 = .ok (.sipush 288, 3) := dk_17 1 32 (dk_at dksX6_readsThing_5 14 rfl rfl)
theorem dX6_readsThing_133 : decode cX6_readsThing 133 = .ok (.iload_n 2, 1) := dk_28 (dk_at dksX6_readsThing_5 17 rfl rfl)
theorem dX6_readsThing_134 : decode cX6_readsThing 134 = .ok (.iadd, 1) := dk_96 (dk_at dksX6_readsThing_5 18 rfl rfl)
theorem dX6_readsThing_135 : decode cX6_readsThing 135 = .ok (.iconst 0, 1) := dk_3 (dk_at dksX6_readsThing_5 19 rfl rfl)
theorem dX6_readsThing_136 : decode cX6_readsThing 136 = .ok (.iastore, 1) := dk_79 (dk_at dksX6_readsThing_5 20 rfl rfl)
theorem dX6_readsThing_137 : decode cX6_readsThing 137 = .ok (.iconst 1, 1) := dk_4 (dk_at dksX6_readsThing_5 21 rfl rfl)
theorem dX6_readsThing_138 : decode cX6_readsThing 138 = .ok (.ireturn, 1) := dk_172 (dk_at dksX6_readsThing_5 22 rfl rfl)
theorem dX6_readsThing_139 : decode cX6_readsThing 139 = .ok (.aload_n 0, 1) := dk_42 (dk_at dksX6_readsThing_5 23 rfl rfl)
theorem dX6_readsThing_140 : decode cX6_readsThing 140 = .ok (.sipush 9999, 3) := dk_17 39 15 (dk_at dksX6_readsThing_6 0 rfl rfl)
theorem dX6_readsThing_143 : decode cX6_readsThing 143 = .ok (.invokevirtual 247, 3) := dk_182 0 247 (dk_at dksX6_readsThing_6 3 rfl rfl)
theorem dX6_readsThing_146 : decode cX6_readsThing 146 = .ok (.ifCond .ne 5, 3) := dk_154 0 5 (dk_at dksX6_readsThing_6 6 rfl rfl)
theorem dX6_readsThing_149 : decode cX6_readsThing 149 = .ok (.iconst 0, 1) := dk_3 (dk_at dksX6_readsThing_6 9 rfl rfl)
theorem dX6_readsThing_150 : decode cX6_readsThing 150 = .ok (.ireturn, 1) := dk_172 (dk_at dksX6_readsThing_6 10 rfl rfl)
theorem dX6_readsThing_151 : decode cX6_readsThing 151 = .ok (.aload_n 0, 1) := dk_42 (dk_at dksX6_readsThing_6 11 rfl rfl)
theorem dX6_readsThing_152 : decode cX6_readsThing 152 = .ok (.getfield 7, 3) := dk_180 0 7 (dk_at dksX6_readsThing_6 12 rfl rfl)
theorem dX6_readsThing_155 : decode cX6_readsThing 155 = .ok (.iload_n 3, 1) := dk_29 (dk_at dksX6_readsThing_6 15 rfl rfl)
theorem dX6_readsThing_156 : decode cX6_readsThing 156 = .ok (.bipush 61, 2) := dk_16 61 (dk_at dksX6_readsThing_6 16 rfl rfl)
theorem dX6_readsThing_158 : decode cX6_readsThing 158 = .ok (.if_icmp .ne 9, 3) := dk_160 0 9 (dk_at dksX6_readsThing_6 18 rfl rfl)
theorem dX6_readsThing_161 : decode cX6_readsThing 161 = .ok (.sipush 240, 3) := dk_17 0 240 (dk_at dksX6_readsThing_6 21 rfl rfl)
theorem dX6_readsThing_164 : decode cX6_readsThing 164 = .ok (.goto 6, 3) := dk_167 0 6 (dk_at dksX6_readsThing_7 0 rfl rfl)
theorem dX6_readsThing_167 : decode cX6_readsThing 167 = .ok (.sipush 264, 3) := dk_17 1 8 (dk_at dksX6_readsThing_7 3 rfl rfl)
theorem dX6_readsThing_170 : decode cX6_readsThing 170 = .ok (.iload_n 2, 1) := dk_28 (dk_at dksX6_readsThing_7 6 rfl rfl)
theorem dX6_readsThing_171 : decode cX6_readsThing 171 = .ok (.iadd, 1) := dk_96 (dk_at dksX6_readsThing_7 7 rfl rfl)
theorem dX6_readsThing_172 : decode cX6_readsThing 172 = .ok (.aload_n 0, 1) := dk_42 (dk_at dksX6_readsThing_7 8 rfl rfl)
theorem dX6_readsThing_173 : decode cX6_readsThing 173 = .ok (.getfield 141, 3) := dk_180 0 141 (dk_at dksX6_readsThing_7 9 rfl rfl)
theorem dX6_readsThing_176 : decode cX6_readsThing 176 = .ok (.iastore, 1) := dk_79 (dk_at dksX6_readsThing_7 12 rfl rfl)
theorem dX6_readsThing_177 : decode cX6_readsThing 177 = .ok (.iconst 1, 1) := dk_4 (dk_at dksX6_readsThing_7 13 rfl rfl)
theorem dX6_readsThing_178 : decode cX6_readsThing 178 = .ok (.ireturn, 1) := dk_172 (dk_at dksX6_readsThing_7 14 rfl rfl)
abbrev cX6_readsWithin : ByteArray := prog_20_method_49_code
def yX6_readsWithin : MethodName := ⟨RX6, "readsWithin", "(I)Z"⟩
def dkwX6_readsWithin_4 : List UInt8 := [42, 6, 28, 182, 0, 138, 153, 0, 7, 4, 167, 0, 4, 3, 172]
abbrev dktX6_readsWithin_4 : List UInt8 := dkwX6_readsWithin_4 ++ []
def dkwX6_readsWithin_3 : List UInt8 := [181, 0, 141, 42, 42, 180, 0, 125, 4, 96, 181, 0, 125, 167, 255, 200, 42, 180, 0, 141, 27, 164, 0, 12]
abbrev dktX6_readsWithin_3 : List UInt8 := dkwX6_readsWithin_3 ++ dktX6_readsWithin_4
def dkwX6_readsWithin_2 : List UInt8 := [180, 0, 125, 182, 0, 138, 172, 42, 16, 10, 42, 180, 0, 141, 104, 42, 182, 0, 131, 96, 16, 48, 100]
abbrev dktX6_readsWithin_2 : List UInt8 := dkwX6_readsWithin_2 ++ dktX6_readsWithin_3
def dkwX6_readsWithin_1 : List UInt8 := [181, 0, 141, 42, 182, 0, 144, 153, 0, 55, 42, 180, 0, 125, 28, 7, 96, 160, 0, 13, 42, 5, 42]
abbrev dktX6_readsWithin_1 : List UInt8 := dkwX6_readsWithin_1 ++ dktX6_readsWithin_2
def dkwX6_readsWithin_0 : List UInt8 := [42, 180, 0, 125, 61, 42, 182, 0, 144, 154, 0, 13, 42, 4, 42, 180, 0, 125, 182, 0, 138, 172, 42, 3]
abbrev dktX6_readsWithin_0 : List UInt8 := dkwX6_readsWithin_0 ++ dktX6_readsWithin_1
theorem dksX6_readsWithin_0 : cX6_readsWithin.data.toList.drop 0 = dktX6_readsWithin_0 := by decide +kernel
theorem dksX6_readsWithin_1 : cX6_readsWithin.data.toList.drop 24 = dktX6_readsWithin_1 := dk_seg dksX6_readsWithin_0 24 rfl rfl
theorem dksX6_readsWithin_2 : cX6_readsWithin.data.toList.drop 47 = dktX6_readsWithin_2 := dk_seg dksX6_readsWithin_1 23 rfl rfl
theorem dksX6_readsWithin_3 : cX6_readsWithin.data.toList.drop 70 = dktX6_readsWithin_3 := dk_seg dksX6_readsWithin_2 23 rfl rfl
theorem dksX6_readsWithin_4 : cX6_readsWithin.data.toList.drop 94 = dktX6_readsWithin_4 := dk_seg dksX6_readsWithin_3 24 rfl rfl
theorem dX6_readsWithin_0 : decode cX6_readsWithin 0 = .ok (.aload_n 0, 1) := dk_42 (dk_at dksX6_readsWithin_0 0 rfl rfl)
theorem dX6_readsWithin_1 : decode cX6_readsWithin 1 = .ok (.getfield 125, 3) := dk_180 0 125 (dk_at dksX6_readsWithin_0 1 rfl rfl)
theorem dX6_readsWithin_4 : decode cX6_readsWithin 4 = .ok (.istore_n 2, 1) := dk_61 (dk_at dksX6_readsWithin_0 4 rfl rfl)
theorem dX6_readsWithin_5 : decode cX6_readsWithin 5 = .ok (.aload_n 0, 1) := dk_42 (dk_at dksX6_readsWithin_0 5 rfl rfl)
theorem dX6_readsWithin_6 : decode cX6_readsWithin 6 = .ok (.invokevirtual 144, 3) := dk_182 0 144 (dk_at dksX6_readsWithin_0 6 rfl rfl)
theorem dX6_readsWithin_9 : decode cX6_readsWithin 9 = .ok (.ifCond .ne 13, 3) := dk_154 0 13 (dk_at dksX6_readsWithin_0 9 rfl rfl)
theorem dX6_readsWithin_12 : decode cX6_readsWithin 12 = .ok (.aload_n 0, 1) := dk_42 (dk_at dksX6_readsWithin_0 12 rfl rfl)
theorem dX6_readsWithin_13 : decode cX6_readsWithin 13 = .ok (.iconst 1, 1) := dk_4 (dk_at dksX6_readsWithin_0 13 rfl rfl)
theorem dX6_readsWithin_14 : decode cX6_readsWithin 14 = .ok (.aload_n 0, 1) := dk_42 (dk_at dksX6_readsWithin_0 14 rfl rfl)
theorem dX6_readsWithin_15 : decode cX6_readsWithin 15 = .ok (.getfield 125, 3) := dk_180 0 125 (dk_at dksX6_readsWithin_0 15 rfl rfl)
theorem dX6_readsWithin_18 : decode cX6_readsWithin 18 = .ok (.invokevirtual 138, 3) := dk_182 0 138 (dk_at dksX6_readsWithin_0 18 rfl rfl)
theorem dX6_readsWithin_21 : decode cX6_readsWithin 21 = .ok (.ireturn, 1) := dk_172 (dk_at dksX6_readsWithin_0 21 rfl rfl)
theorem dX6_readsWithin_22 : decode cX6_readsWithin 22 = .ok (.aload_n 0, 1) := dk_42 (dk_at dksX6_readsWithin_0 22 rfl rfl)
theorem dX6_readsWithin_23 : decode cX6_readsWithin 23 = .ok (.iconst 0, 1) := dk_3 (dk_at dksX6_readsWithin_0 23 rfl rfl)
theorem dX6_readsWithin_24 : decode cX6_readsWithin 24 = .ok (.putfield 141, 3) := dk_181 0 141 (dk_at dksX6_readsWithin_1 0 rfl rfl)
theorem dX6_readsWithin_27 : decode cX6_readsWithin 27 = .ok (.aload_n 0, 1) := dk_42 (dk_at dksX6_readsWithin_1 3 rfl rfl)
theorem dX6_readsWithin_28 : decode cX6_readsWithin 28 = .ok (.invokevirtual 144, 3) := dk_182 0 144 (dk_at dksX6_readsWithin_1 4 rfl rfl)
theorem dX6_readsWithin_31 : decode cX6_readsWithin 31 = .ok (.ifCond .eq 55, 3) := dk_153 0 55 (dk_at dksX6_readsWithin_1 7 rfl rfl)
theorem dX6_readsWithin_34 : decode cX6_readsWithin 34 = .ok (.aload_n 0, 1) := dk_42 (dk_at dksX6_readsWithin_1 10 rfl rfl)
theorem dX6_readsWithin_35 : decode cX6_readsWithin 35 = .ok (.getfield 125, 3) := dk_180 0 125 (dk_at dksX6_readsWithin_1 11 rfl rfl)
theorem dX6_readsWithin_38 : decode cX6_readsWithin 38 = .ok (.iload_n 2, 1) := dk_28 (dk_at dksX6_readsWithin_1 14 rfl rfl)
theorem dX6_readsWithin_39 : decode cX6_readsWithin 39 = .ok (.iconst 4, 1) := dk_7 (dk_at dksX6_readsWithin_1 15 rfl rfl)
theorem dX6_readsWithin_40 : decode cX6_readsWithin 40 = .ok (.iadd, 1) := dk_96 (dk_at dksX6_readsWithin_1 16 rfl rfl)
theorem dX6_readsWithin_41 : decode cX6_readsWithin 41 = .ok (.if_icmp .ne 13, 3) := dk_160 0 13 (dk_at dksX6_readsWithin_1 17 rfl rfl)
theorem dX6_readsWithin_44 : decode cX6_readsWithin 44 = .ok (.aload_n 0, 1) := dk_42 (dk_at dksX6_readsWithin_1 20 rfl rfl)
theorem dX6_readsWithin_45 : decode cX6_readsWithin 45 = .ok (.iconst 2, 1) := dk_5 (dk_at dksX6_readsWithin_1 21 rfl rfl)
theorem dX6_readsWithin_46 : decode cX6_readsWithin 46 = .ok (.aload_n 0, 1) := dk_42 (dk_at dksX6_readsWithin_1 22 rfl rfl)
theorem dX6_readsWithin_47 : decode cX6_readsWithin 47 = .ok (.getfield 125, 3) := dk_180 0 125 (dk_at dksX6_readsWithin_2 0 rfl rfl)
theorem dX6_readsWithin_50 : decode cX6_readsWithin 50 = .ok (.invokevirtual 138, 3) := dk_182 0 138 (dk_at dksX6_readsWithin_2 3 rfl rfl)
theorem dX6_readsWithin_53 : decode cX6_readsWithin 53 = .ok (.ireturn, 1) := dk_172 (dk_at dksX6_readsWithin_2 6 rfl rfl)
theorem dX6_readsWithin_54 : decode cX6_readsWithin 54 = .ok (.aload_n 0, 1) := dk_42 (dk_at dksX6_readsWithin_2 7 rfl rfl)
theorem dX6_readsWithin_55 : decode cX6_readsWithin 55 = .ok (.bipush 10, 2) := dk_16 10 (dk_at dksX6_readsWithin_2 8 rfl rfl)
theorem dX6_readsWithin_57 : decode cX6_readsWithin 57 = .ok (.aload_n 0, 1) := dk_42 (dk_at dksX6_readsWithin_2 10 rfl rfl)
theorem dX6_readsWithin_58 : decode cX6_readsWithin 58 = .ok (.getfield 141, 3) := dk_180 0 141 (dk_at dksX6_readsWithin_2 11 rfl rfl)
theorem dX6_readsWithin_61 : decode cX6_readsWithin 61 = .ok (.imul, 1) := dk_104 (dk_at dksX6_readsWithin_2 14 rfl rfl)
theorem dX6_readsWithin_62 : decode cX6_readsWithin 62 = .ok (.aload_n 0, 1) := dk_42 (dk_at dksX6_readsWithin_2 15 rfl rfl)
theorem dX6_readsWithin_63 : decode cX6_readsWithin 63 = .ok (.invokevirtual 131, 3) := dk_182 0 131 (dk_at dksX6_readsWithin_2 16 rfl rfl)
theorem dX6_readsWithin_66 : decode cX6_readsWithin 66 = .ok (.iadd, 1) := dk_96 (dk_at dksX6_readsWithin_2 19 rfl rfl)
theorem dX6_readsWithin_67 : decode cX6_readsWithin 67 = .ok (.bipush 48, 2) := dk_16 48 (dk_at dksX6_readsWithin_2 20 rfl rfl)
theorem dX6_readsWithin_69 : decode cX6_readsWithin 69 = .ok (.isub, 1) := dk_100 (dk_at dksX6_readsWithin_2 22 rfl rfl)
theorem dX6_readsWithin_70 : decode cX6_readsWithin 70 = .ok (.putfield 141, 3) := dk_181 0 141 (dk_at dksX6_readsWithin_3 0 rfl rfl)
theorem dX6_readsWithin_73 : decode cX6_readsWithin 73 = .ok (.aload_n 0, 1) := dk_42 (dk_at dksX6_readsWithin_3 3 rfl rfl)
theorem dX6_readsWithin_74 : decode cX6_readsWithin 74 = .ok (.aload_n 0, 1) := dk_42 (dk_at dksX6_readsWithin_3 4 rfl rfl)
theorem dX6_readsWithin_75 : decode cX6_readsWithin 75 = .ok (.getfield 125, 3) := dk_180 0 125 (dk_at dksX6_readsWithin_3 5 rfl rfl)
theorem dX6_readsWithin_78 : decode cX6_readsWithin 78 = .ok (.iconst 1, 1) := dk_4 (dk_at dksX6_readsWithin_3 8 rfl rfl)
theorem dX6_readsWithin_79 : decode cX6_readsWithin 79 = .ok (.iadd, 1) := dk_96 (dk_at dksX6_readsWithin_3 9 rfl rfl)
theorem dX6_readsWithin_80 : decode cX6_readsWithin 80 = .ok (.putfield 125, 3) := dk_181 0 125 (dk_at dksX6_readsWithin_3 10 rfl rfl)
theorem dX6_readsWithin_83 : decode cX6_readsWithin 83 = .ok (.goto (-56), 3) := dk_167 255 200 (dk_at dksX6_readsWithin_3 13 rfl rfl)
theorem dX6_readsWithin_86 : decode cX6_readsWithin 86 = .ok (.aload_n 0, 1) := dk_42 (dk_at dksX6_readsWithin_3 16 rfl rfl)
theorem dX6_readsWithin_87 : decode cX6_readsWithin 87 = .ok (.getfield 141, 3) := dk_180 0 141 (dk_at dksX6_readsWithin_3 17 rfl rfl)
theorem dX6_readsWithin_90 : decode cX6_readsWithin 90 = .ok (.iload_n 1, 1) := dk_27 (dk_at dksX6_readsWithin_3 20 rfl rfl)
theorem dX6_readsWithin_91 : decode cX6_readsWithin 91 = .ok (.if_icmp .le 12, 3) := dk_164 0 12 (dk_at dksX6_readsWithin_3 21 rfl rfl)
theorem dX6_readsWithin_94 : decode cX6_readsWithin 94 = .ok (.aload_n 0, 1) := dk_42 (dk_at dksX6_readsWithin_4 0 rfl rfl)
theorem dX6_readsWithin_95 : decode cX6_readsWithin 95 = .ok (.iconst 3, 1) := dk_6 (dk_at dksX6_readsWithin_4 1 rfl rfl)
theorem dX6_readsWithin_96 : decode cX6_readsWithin 96 = .ok (.iload_n 2, 1) := dk_28 (dk_at dksX6_readsWithin_4 2 rfl rfl)
theorem dX6_readsWithin_97 : decode cX6_readsWithin 97 = .ok (.invokevirtual 138, 3) := dk_182 0 138 (dk_at dksX6_readsWithin_4 3 rfl rfl)
theorem dX6_readsWithin_100 : decode cX6_readsWithin 100 = .ok (.ifCond .eq 7, 3) := dk_153 0 7 (dk_at dksX6_readsWithin_4 6 rfl rfl)
theorem dX6_readsWithin_103 : decode cX6_readsWithin 103 = .ok (.iconst 1, 1) := dk_4 (dk_at dksX6_readsWithin_4 9 rfl rfl)
theorem dX6_readsWithin_104 : decode cX6_readsWithin 104 = .ok (.goto 4, 3) := dk_167 0 4 (dk_at dksX6_readsWithin_4 10 rfl rfl)
theorem dX6_readsWithin_107 : decode cX6_readsWithin 107 = .ok (.iconst 0, 1) := dk_3 (dk_at dksX6_readsWithin_4 13 rfl rfl)
theorem dX6_readsWithin_108 : decode cX6_readsWithin 108 = .ok (.ireturn, 1) := dk_172 (dk_at dksX6_readsWithin_4 14 rfl rfl)
abbrev cX6_isThing : ByteArray := prog_20_method_13_code
def yX6_isThing : MethodName := ⟨RX6, "isThing", "(I)Z"⟩
def dkwX6_isThing_1 : List UInt8 := [4, 167, 0, 4, 3, 172]
abbrev dktX6_isThing_1 : List UInt8 := dkwX6_isThing_1 ++ []
def dkwX6_isThing_0 : List UInt8 := [27, 3, 16, 23, 184, 0, 102, 153, 0, 21, 42, 180, 0, 7, 17, 0, 192, 27, 96, 46, 4, 160, 0, 7]
abbrev dktX6_isThing_0 : List UInt8 := dkwX6_isThing_0 ++ dktX6_isThing_1
theorem dksX6_isThing_0 : cX6_isThing.data.toList.drop 0 = dktX6_isThing_0 := by decide +kernel
theorem dksX6_isThing_1 : cX6_isThing.data.toList.drop 24 = dktX6_isThing_1 := dk_seg dksX6_isThing_0 24 rfl rfl
theorem dX6_isThing_0 : decode cX6_isThing 0 = .ok (.iload_n 1, 1) := dk_27 (dk_at dksX6_isThing_0 0 rfl rfl)
theorem dX6_isThing_1 : decode cX6_isThing 1 = .ok (.iconst 0, 1) := dk_3 (dk_at dksX6_isThing_0 1 rfl rfl)
theorem dX6_isThing_2 : decode cX6_isThing 2 = .ok (.bipush 23, 2) := dk_16 23 (dk_at dksX6_isThing_0 2 rfl rfl)
theorem dX6_isThing_4 : decode cX6_isThing 4 = .ok (.invokestatic 102, 3) := dk_184 0 102 (dk_at dksX6_isThing_0 4 rfl rfl)
theorem dX6_isThing_7 : decode cX6_isThing 7 = .ok (.ifCond .eq 21, 3) := dk_153 0 21 (dk_at dksX6_isThing_0 7 rfl rfl)
theorem dX6_isThing_10 : decode cX6_isThing 10 = .ok (.aload_n 0, 1) := dk_42 (dk_at dksX6_isThing_0 10 rfl rfl)
theorem dX6_isThing_11 : decode cX6_isThing 11 = .ok (.getfield 7, 3) := dk_180 0 7 (dk_at dksX6_isThing_0 11 rfl rfl)
theorem dX6_isThing_14 : decode cX6_isThing 14 = .ok (.sipush 192, 3) := dk_17 0 192 (dk_at dksX6_isThing_0 14 rfl rfl)
theorem dX6_isThing_17 : decode cX6_isThing 17 = .ok (.iload_n 1, 1) := dk_27 (dk_at dksX6_isThing_0 17 rfl rfl)
theorem dX6_isThing_18 : decode cX6_isThing 18 = .ok (.iadd, 1) := dk_96 (dk_at dksX6_isThing_0 18 rfl rfl)
theorem dX6_isThing_19 : decode cX6_isThing 19 = .ok (.iaload, 1) := dk_46 (dk_at dksX6_isThing_0 19 rfl rfl)
theorem dX6_isThing_20 : decode cX6_isThing 20 = .ok (.iconst 1, 1) := dk_4 (dk_at dksX6_isThing_0 20 rfl rfl)
theorem dX6_isThing_21 : decode cX6_isThing 21 = .ok (.if_icmp .ne 7, 3) := dk_160 0 7 (dk_at dksX6_isThing_0 21 rfl rfl)
theorem dX6_isThing_24 : decode cX6_isThing 24 = .ok (.iconst 1, 1) := dk_4 (dk_at dksX6_isThing_1 0 rfl rfl)
theorem dX6_isThing_25 : decode cX6_isThing 25 = .ok (.goto 4, 3) := dk_167 0 4 (dk_at dksX6_isThing_1 1 rfl rfl)
theorem dX6_isThing_28 : decode cX6_isThing 28 = .ok (.iconst 0, 1) := dk_3 (dk_at dksX6_isThing_1 4 rfl rfl)
theorem dX6_isThing_29 : decode cX6_isThing 29 = .ok (.ireturn, 1) := dk_172 (dk_at dksX6_isThing_1 5 rfl rfl)
abbrev cX6_readsSpot : ByteArray := prog_20_method_50_code
def yX6_readsSpot : MethodName := ⟨RX6, "readsSpot", "()Z"⟩
def dkwX6_readsSpot_2 : List UInt8 := [180, 0, 141, 104, 27, 96, 181, 0, 250, 4, 172]
abbrev dktX6_readsSpot_2 : List UInt8 := dkwX6_readsSpot_2 ++ []
def dkwX6_readsSpot_1 : List UInt8 := [42, 16, 44, 182, 0, 215, 153, 0, 12, 42, 16, 7, 182, 0, 247, 154, 0, 5, 3, 172, 42, 16, 12, 42]
abbrev dktX6_readsSpot_1 : List UInt8 := dkwX6_readsSpot_1 ++ dktX6_readsSpot_2
def dkwX6_readsSpot_0 : List UInt8 := [42, 42, 180, 0, 125, 181, 0, 244, 42, 16, 11, 182, 0, 247, 154, 0, 5, 3, 172, 42, 180, 0, 141, 60]
abbrev dktX6_readsSpot_0 : List UInt8 := dkwX6_readsSpot_0 ++ dktX6_readsSpot_1
theorem dksX6_readsSpot_0 : cX6_readsSpot.data.toList.drop 0 = dktX6_readsSpot_0 := by decide +kernel
theorem dksX6_readsSpot_1 : cX6_readsSpot.data.toList.drop 24 = dktX6_readsSpot_1 := dk_seg dksX6_readsSpot_0 24 rfl rfl
theorem dksX6_readsSpot_2 : cX6_readsSpot.data.toList.drop 48 = dktX6_readsSpot_2 := dk_seg dksX6_readsSpot_1 24 rfl rfl
theorem dX6_readsSpot_0 : decode cX6_readsSpot 0 = .ok (.aload_n 0, 1) := dk_42 (dk_at dksX6_readsSpot_0 0 rfl rfl)
theorem dX6_readsSpot_1 : decode cX6_readsSpot 1 = .ok (.aload_n 0, 1) := dk_42 (dk_at dksX6_readsSpot_0 1 rfl rfl)
theorem dX6_readsSpot_2 : decode cX6_readsSpot 2 = .ok (.getfield 125, 3) := dk_180 0 125 (dk_at dksX6_readsSpot_0 2 rfl rfl)
theorem dX6_readsSpot_5 : decode cX6_readsSpot 5 = .ok (.putfield 244, 3) := dk_181 0 244 (dk_at dksX6_readsSpot_0 5 rfl rfl)
theorem dX6_readsSpot_8 : decode cX6_readsSpot 8 = .ok (.aload_n 0, 1) := dk_42 (dk_at dksX6_readsSpot_0 8 rfl rfl)
theorem dX6_readsSpot_9 : decode cX6_readsSpot 9 = .ok (.bipush 11, 2) := dk_16 11 (dk_at dksX6_readsSpot_0 9 rfl rfl)
theorem dX6_readsSpot_11 : decode cX6_readsSpot 11 = .ok (.invokevirtual 247, 3) := dk_182 0 247 (dk_at dksX6_readsSpot_0 11 rfl rfl)
theorem dX6_readsSpot_14 : decode cX6_readsSpot 14 = .ok (.ifCond .ne 5, 3) := dk_154 0 5 (dk_at dksX6_readsSpot_0 14 rfl rfl)
theorem dX6_readsSpot_17 : decode cX6_readsSpot 17 = .ok (.iconst 0, 1) := dk_3 (dk_at dksX6_readsSpot_0 17 rfl rfl)
theorem dX6_readsSpot_18 : decode cX6_readsSpot 18 = .ok (.ireturn, 1) := dk_172 (dk_at dksX6_readsSpot_0 18 rfl rfl)
theorem dX6_readsSpot_19 : decode cX6_readsSpot 19 = .ok (.aload_n 0, 1) := dk_42 (dk_at dksX6_readsSpot_0 19 rfl rfl)
theorem dX6_readsSpot_20 : decode cX6_readsSpot 20 = .ok (.getfield 141, 3) := dk_180 0 141 (dk_at dksX6_readsSpot_0 20 rfl rfl)
theorem dX6_readsSpot_23 : decode cX6_readsSpot 23 = .ok (.istore_n 1, 1) := dk_60 (dk_at dksX6_readsSpot_0 23 rfl rfl)
theorem dX6_readsSpot_24 : decode cX6_readsSpot 24 = .ok (.aload_n 0, 1) := dk_42 (dk_at dksX6_readsSpot_1 0 rfl rfl)
theorem dX6_readsSpot_25 : decode cX6_readsSpot 25 = .ok (.bipush 44, 2) := dk_16 44 (dk_at dksX6_readsSpot_1 1 rfl rfl)
theorem dX6_readsSpot_27 : decode cX6_readsSpot 27 = .ok (.invokevirtual 215, 3) := dk_182 0 215 (dk_at dksX6_readsSpot_1 3 rfl rfl)
theorem dX6_readsSpot_30 : decode cX6_readsSpot 30 = .ok (.ifCond .eq 12, 3) := dk_153 0 12 (dk_at dksX6_readsSpot_1 6 rfl rfl)
theorem dX6_readsSpot_33 : decode cX6_readsSpot 33 = .ok (.aload_n 0, 1) := dk_42 (dk_at dksX6_readsSpot_1 9 rfl rfl)
theorem dX6_readsSpot_34 : decode cX6_readsSpot 34 = .ok (.bipush 7, 2) := dk_16 7 (dk_at dksX6_readsSpot_1 10 rfl rfl)
theorem dX6_readsSpot_36 : decode cX6_readsSpot 36 = .ok (.invokevirtual 247, 3) := dk_182 0 247 (dk_at dksX6_readsSpot_1 12 rfl rfl)
theorem dX6_readsSpot_39 : decode cX6_readsSpot 39 = .ok (.ifCond .ne 5, 3) := dk_154 0 5 (dk_at dksX6_readsSpot_1 15 rfl rfl)
theorem dX6_readsSpot_42 : decode cX6_readsSpot 42 = .ok (.iconst 0, 1) := dk_3 (dk_at dksX6_readsSpot_1 18 rfl rfl)
theorem dX6_readsSpot_43 : decode cX6_readsSpot 43 = .ok (.ireturn, 1) := dk_172 (dk_at dksX6_readsSpot_1 19 rfl rfl)
theorem dX6_readsSpot_44 : decode cX6_readsSpot 44 = .ok (.aload_n 0, 1) := dk_42 (dk_at dksX6_readsSpot_1 20 rfl rfl)
theorem dX6_readsSpot_45 : decode cX6_readsSpot 45 = .ok (.bipush 12, 2) := dk_16 12 (dk_at dksX6_readsSpot_1 21 rfl rfl)
theorem dX6_readsSpot_47 : decode cX6_readsSpot 47 = .ok (.aload_n 0, 1) := dk_42 (dk_at dksX6_readsSpot_1 23 rfl rfl)
theorem dX6_readsSpot_48 : decode cX6_readsSpot 48 = .ok (.getfield 141, 3) := dk_180 0 141 (dk_at dksX6_readsSpot_2 0 rfl rfl)
theorem dX6_readsSpot_51 : decode cX6_readsSpot 51 = .ok (.imul, 1) := dk_104 (dk_at dksX6_readsSpot_2 3 rfl rfl)
theorem dX6_readsSpot_52 : decode cX6_readsSpot 52 = .ok (.iload_n 1, 1) := dk_27 (dk_at dksX6_readsSpot_2 4 rfl rfl)
theorem dX6_readsSpot_53 : decode cX6_readsSpot 53 = .ok (.iadd, 1) := dk_96 (dk_at dksX6_readsSpot_2 5 rfl rfl)
theorem dX6_readsSpot_54 : decode cX6_readsSpot 54 = .ok (.putfield 250, 3) := dk_181 0 250 (dk_at dksX6_readsSpot_2 6 rfl rfl)
theorem dX6_readsSpot_57 : decode cX6_readsSpot 57 = .ok (.iconst 1, 1) := dk_4 (dk_at dksX6_readsSpot_2 9 rfl rfl)
theorem dX6_readsSpot_58 : decode cX6_readsSpot 58 = .ok (.ireturn, 1) := dk_172 (dk_at dksX6_readsSpot_2 10 rfl rfl)
abbrev cX6_readsFire : ByteArray := prog_20_method_52_code
def yX6_readsFire : MethodName := ⟨RX6, "readsFire", "()Z"⟩
def dkwX6_readsFire_3 : List UInt8 := [4, 172]
abbrev dktX6_readsFire_3 : List UInt8 := dkwX6_readsFire_3 ++ []
def dkwX6_readsFire_2 : List UInt8 := [180, 0, 7, 3, 42, 180, 0, 250, 96, 4, 79, 42, 180, 0, 7, 16, 96, 42, 180, 0, 250, 96, 6, 79]
abbrev dktX6_readsFire_2 : List UInt8 := dkwX6_readsFire_2 ++ dktX6_readsFire_3
def dkwX6_readsFire_1 : List UInt8 := [3, 42, 180, 0, 250, 96, 46, 153, 0, 14, 42, 16, 8, 42, 180, 0, 244, 182, 0, 138, 172, 42]
abbrev dktX6_readsFire_1 : List UInt8 := dkwX6_readsFire_1 ++ dktX6_readsFire_2
def dkwX6_readsFire_0 : List UInt8 := [42, 182, 0, 253, 154, 0, 5, 3, 172, 42, 42, 180, 0, 250, 182, 0, 241, 153, 0, 17, 42, 180, 0, 7]
abbrev dktX6_readsFire_0 : List UInt8 := dkwX6_readsFire_0 ++ dktX6_readsFire_1
theorem dksX6_readsFire_0 : cX6_readsFire.data.toList.drop 0 = dktX6_readsFire_0 := by decide +kernel
theorem dksX6_readsFire_1 : cX6_readsFire.data.toList.drop 24 = dktX6_readsFire_1 := dk_seg dksX6_readsFire_0 24 rfl rfl
theorem dksX6_readsFire_2 : cX6_readsFire.data.toList.drop 46 = dktX6_readsFire_2 := dk_seg dksX6_readsFire_1 22 rfl rfl
theorem dksX6_readsFire_3 : cX6_readsFire.data.toList.drop 70 = dktX6_readsFire_3 := dk_seg dksX6_readsFire_2 24 rfl rfl
theorem dX6_readsFire_0 : decode cX6_readsFire 0 = .ok (.aload_n 0, 1) := dk_42 (dk_at dksX6_readsFire_0 0 rfl rfl)
theorem dX6_readsFire_1 : decode cX6_readsFire 1 = .ok (.invokevirtual 253, 3) := dk_182 0 253 (dk_at dksX6_readsFire_0 1 rfl rfl)
theorem dX6_readsFire_4 : decode cX6_readsFire 4 = .ok (.ifCond .ne 5, 3) := dk_154 0 5 (dk_at dksX6_readsFire_0 4 rfl rfl)
theorem dX6_readsFire_7 : decode cX6_readsFire 7 = .ok (.iconst 0, 1) := dk_3 (dk_at dksX6_readsFire_0 7 rfl rfl)
theorem dX6_readsFire_8 : decode cX6_readsFire 8 = .ok (.ireturn, 1) := dk_172 (dk_at dksX6_readsFire_0 8 rfl rfl)
theorem dX6_readsFire_9 : decode cX6_readsFire 9 = .ok (.aload_n 0, 1) := dk_42 (dk_at dksX6_readsFire_0 9 rfl rfl)
theorem dX6_readsFire_10 : decode cX6_readsFire 10 = .ok (.aload_n 0, 1) := dk_42 (dk_at dksX6_readsFire_0 10 rfl rfl)
theorem dX6_readsFire_11 : decode cX6_readsFire 11 = .ok (.getfield 250, 3) := dk_180 0 250 (dk_at dksX6_readsFire_0 11 rfl rfl)
theorem dX6_readsFire_14 : decode cX6_readsFire 14 = .ok (.invokevirtual 241, 3) := dk_182 0 241 (dk_at dksX6_readsFire_0 14 rfl rfl)
theorem dX6_readsFire_17 : decode cX6_readsFire 17 = .ok (.ifCond .eq 17, 3) := dk_153 0 17 (dk_at dksX6_readsFire_0 17 rfl rfl)
theorem dX6_readsFire_20 : decode cX6_readsFire 20 = .ok (.aload_n 0, 1) := dk_42 (dk_at dksX6_readsFire_0 20 rfl rfl)
theorem dX6_readsFire_21 : decode cX6_readsFire 21 = .ok (.getfield 7, 3) := dk_180 0 7 (dk_at dksX6_readsFire_0 21 rfl rfl)
theorem dX6_readsFire_24 : decode cX6_readsFire 24 = .ok (.iconst 0, 1) := dk_3 (dk_at dksX6_readsFire_1 0 rfl rfl)
theorem dX6_readsFire_25 : decode cX6_readsFire 25 = .ok (.aload_n 0, 1) := dk_42 (dk_at dksX6_readsFire_1 1 rfl rfl)
theorem dX6_readsFire_26 : decode cX6_readsFire 26 = .ok (.getfield 250, 3) := dk_180 0 250 (dk_at dksX6_readsFire_1 2 rfl rfl)
theorem dX6_readsFire_29 : decode cX6_readsFire 29 = .ok (.iadd, 1) := dk_96 (dk_at dksX6_readsFire_1 5 rfl rfl)
theorem dX6_readsFire_30 : decode cX6_readsFire 30 = .ok (.iaload, 1) := dk_46 (dk_at dksX6_readsFire_1 6 rfl rfl)
theorem dX6_readsFire_31 : decode cX6_readsFire 31 = .ok (.ifCond .eq 14, 3) := dk_153 0 14 (dk_at dksX6_readsFire_1 7 rfl rfl)
theorem dX6_readsFire_34 : decode cX6_readsFire 34 = .ok (.aload_n 0, 1) := dk_42 (dk_at dksX6_readsFire_1 10 rfl rfl)
theorem dX6_readsFire_35 : decode cX6_readsFire 35 = .ok (.bipush 8, 2) := dk_16 8 (dk_at dksX6_readsFire_1 11 rfl rfl)
theorem dX6_readsFire_37 : decode cX6_readsFire 37 = .ok (.aload_n 0, 1) := dk_42 (dk_at dksX6_readsFire_1 13 rfl rfl)
theorem dX6_readsFire_38 : decode cX6_readsFire 38 = .ok (.getfield 244, 3) := dk_180 0 244 (dk_at dksX6_readsFire_1 14 rfl rfl)
theorem dX6_readsFire_41 : decode cX6_readsFire 41 = .ok (.invokevirtual 138, 3) := dk_182 0 138 (dk_at dksX6_readsFire_1 17 rfl rfl)
theorem dX6_readsFire_44 : decode cX6_readsFire 44 = .ok (.ireturn, 1) := dk_172 (dk_at dksX6_readsFire_1 20 rfl rfl)
theorem dX6_readsFire_45 : decode cX6_readsFire 45 = .ok (.aload_n 0, 1) := dk_42 (dk_at dksX6_readsFire_1 21 rfl rfl)
theorem dX6_readsFire_46 : decode cX6_readsFire 46 = .ok (.getfield 7, 3) := dk_180 0 7 (dk_at dksX6_readsFire_2 0 rfl rfl)
theorem dX6_readsFire_49 : decode cX6_readsFire 49 = .ok (.iconst 0, 1) := dk_3 (dk_at dksX6_readsFire_2 3 rfl rfl)
theorem dX6_readsFire_50 : decode cX6_readsFire 50 = .ok (.aload_n 0, 1) := dk_42 (dk_at dksX6_readsFire_2 4 rfl rfl)
theorem dX6_readsFire_51 : decode cX6_readsFire 51 = .ok (.getfield 250, 3) := dk_180 0 250 (dk_at dksX6_readsFire_2 5 rfl rfl)
theorem dX6_readsFire_54 : decode cX6_readsFire 54 = .ok (.iadd, 1) := dk_96 (dk_at dksX6_readsFire_2 8 rfl rfl)
theorem dX6_readsFire_55 : decode cX6_readsFire 55 = .ok (.iconst 1, 1) := dk_4 (dk_at dksX6_readsFire_2 9 rfl rfl)
theorem dX6_readsFire_56 : decode cX6_readsFire 56 = .ok (.iastore, 1) := dk_79 (dk_at dksX6_readsFire_2 10 rfl rfl)
theorem dX6_readsFire_57 : decode cX6_readsFire 57 = .ok (.aload_n 0, 1) := dk_42 (dk_at dksX6_readsFire_2 11 rfl rfl)
theorem dX6_readsFire_58 : decode cX6_readsFire 58 = .ok (.getfield 7, 3) := dk_180 0 7 (dk_at dksX6_readsFire_2 12 rfl rfl)
theorem dX6_readsFire_61 : decode cX6_readsFire 61 = .ok (.bipush 96, 2) := dk_16 96 (dk_at dksX6_readsFire_2 15 rfl rfl)
theorem dX6_readsFire_63 : decode cX6_readsFire 63 = .ok (.aload_n 0, 1) := dk_42 (dk_at dksX6_readsFire_2 17 rfl rfl)
theorem dX6_readsFire_64 : decode cX6_readsFire 64 = .ok (.getfield 250, 3) := dk_180 0 250 (dk_at dksX6_readsFire_2 18 rfl rfl)
theorem dX6_readsFire_67 : decode cX6_readsFire 67 = .ok (.iadd, 1) := dk_96 (dk_at dksX6_readsFire_2 21 rfl rfl)
theorem dX6_readsFire_68 : decode cX6_readsFire 68 = .ok (.iconst 3, 1) := dk_6 (dk_at dksX6_readsFire_2 22 rfl rfl)
theorem dX6_readsFire_69 : decode cX6_readsFire 69 = .ok (.iastore, 1) := dk_79 (dk_at dksX6_readsFire_2 23 rfl rfl)
theorem dX6_readsFire_70 : decode cX6_readsFire 70 = .ok (.iconst 1, 1) := dk_4 (dk_at dksX6_readsFire_3 0 rfl rfl)
theorem dX6_readsFire_71 : decode cX6_readsFire 71 = .ok (.ireturn, 1) := dk_172 (dk_at dksX6_readsFire_3 1 rfl rfl)
abbrev cX6_readsWater : ByteArray := prog_20_method_53_code
def yX6_readsWater : MethodName := ⟨RX6, "readsWater", "()Z"⟩
def dkwX6_readsWater_1 : List UInt8 := [182, 0, 238, 4, 172]
abbrev dktX6_readsWater_1 : List UInt8 := dkwX6_readsWater_1 ++ []
def dkwX6_readsWater_0 : List UInt8 := [42, 182, 0, 253, 154, 0, 5, 3, 172, 42, 180, 0, 19, 42, 180, 0, 250, 6, 79, 42, 42, 180, 0, 250]
abbrev dktX6_readsWater_0 : List UInt8 := dkwX6_readsWater_0 ++ dktX6_readsWater_1
theorem dksX6_readsWater_0 : cX6_readsWater.data.toList.drop 0 = dktX6_readsWater_0 := by decide +kernel
theorem dksX6_readsWater_1 : cX6_readsWater.data.toList.drop 24 = dktX6_readsWater_1 := dk_seg dksX6_readsWater_0 24 rfl rfl
theorem dX6_readsWater_0 : decode cX6_readsWater 0 = .ok (.aload_n 0, 1) := dk_42 (dk_at dksX6_readsWater_0 0 rfl rfl)
theorem dX6_readsWater_1 : decode cX6_readsWater 1 = .ok (.invokevirtual 253, 3) := dk_182 0 253 (dk_at dksX6_readsWater_0 1 rfl rfl)
theorem dX6_readsWater_4 : decode cX6_readsWater 4 = .ok (.ifCond .ne 5, 3) := dk_154 0 5 (dk_at dksX6_readsWater_0 4 rfl rfl)
theorem dX6_readsWater_7 : decode cX6_readsWater 7 = .ok (.iconst 0, 1) := dk_3 (dk_at dksX6_readsWater_0 7 rfl rfl)
theorem dX6_readsWater_8 : decode cX6_readsWater 8 = .ok (.ireturn, 1) := dk_172 (dk_at dksX6_readsWater_0 8 rfl rfl)
theorem dX6_readsWater_9 : decode cX6_readsWater 9 = .ok (.aload_n 0, 1) := dk_42 (dk_at dksX6_readsWater_0 9 rfl rfl)
theorem dX6_readsWater_10 : decode cX6_readsWater 10 = .ok (.getfield 19, 3) := dk_180 0 19 (dk_at dksX6_readsWater_0 10 rfl rfl)
theorem dX6_readsWater_13 : decode cX6_readsWater 13 = .ok (.aload_n 0, 1) := dk_42 (dk_at dksX6_readsWater_0 13 rfl rfl)
theorem dX6_readsWater_14 : decode cX6_readsWater 14 = .ok (.getfield 250, 3) := dk_180 0 250 (dk_at dksX6_readsWater_0 14 rfl rfl)
theorem dX6_readsWater_17 : decode cX6_readsWater 17 = .ok (.iconst 3, 1) := dk_6 (dk_at dksX6_readsWater_0 17 rfl rfl)
theorem dX6_readsWater_18 : decode cX6_readsWater 18 = .ok (.iastore, 1) := dk_79 (dk_at dksX6_readsWater_0 18 rfl rfl)
theorem dX6_readsWater_19 : decode cX6_readsWater 19 = .ok (.aload_n 0, 1) := dk_42 (dk_at dksX6_readsWater_0 19 rfl rfl)
theorem dX6_readsWater_20 : decode cX6_readsWater 20 = .ok (.aload_n 0, 1) := dk_42 (dk_at dksX6_readsWater_0 20 rfl rfl)
theorem dX6_readsWater_21 : decode cX6_readsWater 21 = .ok (.getfield 250, 3) := dk_180 0 250 (dk_at dksX6_readsWater_0 21 rfl rfl)
theorem dX6_readsWater_24 : decode cX6_readsWater 24 = .ok (.invokevirtual 238, 3) := dk_182 0 238 (dk_at dksX6_readsWater_1 0 rfl rfl)
theorem dX6_readsWater_27 : decode cX6_readsWater 27 = .ok (.iconst 1, 1) := dk_4 (dk_at dksX6_readsWater_1 3 rfl rfl)
theorem dX6_readsWater_28 : decode cX6_readsWater 28 = .ok (.ireturn, 1) := dk_172 (dk_at dksX6_readsWater_1 4 rfl rfl)
abbrev cX6_readsWind : ByteArray := prog_20_method_54_code
def yX6_readsWind : MethodName := ⟨RX6, "readsWind", "()Z"⟩
def dkwX6_readsWind_2 : List UInt8 := [181, 0, 125, 4, 172]
abbrev dktX6_readsWind_2 : List UInt8 := dkwX6_readsWind_2 ++ []
def dkwX6_readsWind_1 : List UInt8 := [42, 180, 0, 7, 17, 1, 56, 42, 182, 0, 131, 16, 48, 100, 79, 42, 42, 180, 0, 125, 4, 96]
abbrev dktX6_readsWind_1 : List UInt8 := dkwX6_readsWind_1 ++ dktX6_readsWind_2
def dkwX6_readsWind_0 : List UInt8 := [42, 182, 0, 131, 16, 48, 16, 51, 184, 0, 102, 154, 0, 13, 42, 4, 42, 180, 0, 125, 182, 0, 138, 172]
abbrev dktX6_readsWind_0 : List UInt8 := dkwX6_readsWind_0 ++ dktX6_readsWind_1
theorem dksX6_readsWind_0 : cX6_readsWind.data.toList.drop 0 = dktX6_readsWind_0 := by decide +kernel
theorem dksX6_readsWind_1 : cX6_readsWind.data.toList.drop 24 = dktX6_readsWind_1 := dk_seg dksX6_readsWind_0 24 rfl rfl
theorem dksX6_readsWind_2 : cX6_readsWind.data.toList.drop 46 = dktX6_readsWind_2 := dk_seg dksX6_readsWind_1 22 rfl rfl
theorem dX6_readsWind_0 : decode cX6_readsWind 0 = .ok (.aload_n 0, 1) := dk_42 (dk_at dksX6_readsWind_0 0 rfl rfl)
theorem dX6_readsWind_1 : decode cX6_readsWind 1 = .ok (.invokevirtual 131, 3) := dk_182 0 131 (dk_at dksX6_readsWind_0 1 rfl rfl)
theorem dX6_readsWind_4 : decode cX6_readsWind 4 = .ok (.bipush 48, 2) := dk_16 48 (dk_at dksX6_readsWind_0 4 rfl rfl)
theorem dX6_readsWind_6 : decode cX6_readsWind 6 = .ok (.bipush 51, 2) := dk_16 51 (dk_at dksX6_readsWind_0 6 rfl rfl)
theorem dX6_readsWind_8 : decode cX6_readsWind 8 = .ok (.invokestatic 102, 3) := dk_184 0 102 (dk_at dksX6_readsWind_0 8 rfl rfl)
theorem dX6_readsWind_11 : decode cX6_readsWind 11 = .ok (.ifCond .ne 13, 3) := dk_154 0 13 (dk_at dksX6_readsWind_0 11 rfl rfl)
theorem dX6_readsWind_14 : decode cX6_readsWind 14 = .ok (.aload_n 0, 1) := dk_42 (dk_at dksX6_readsWind_0 14 rfl rfl)
theorem dX6_readsWind_15 : decode cX6_readsWind 15 = .ok (.iconst 1, 1) := dk_4 (dk_at dksX6_readsWind_0 15 rfl rfl)
theorem dX6_readsWind_16 : decode cX6_readsWind 16 = .ok (.aload_n 0, 1) := dk_42 (dk_at dksX6_readsWind_0 16 rfl rfl)
theorem dX6_readsWind_17 : decode cX6_readsWind 17 = .ok (.getfield 125, 3) := dk_180 0 125 (dk_at dksX6_readsWind_0 17 rfl rfl)
theorem dX6_readsWind_20 : decode cX6_readsWind 20 = .ok (.invokevirtual 138, 3) := dk_182 0 138 (dk_at dksX6_readsWind_0 20 rfl rfl)
theorem dX6_readsWind_23 : decode cX6_readsWind 23 = .ok (.ireturn, 1) := dk_172 (dk_at dksX6_readsWind_0 23 rfl rfl)
theorem dX6_readsWind_24 : decode cX6_readsWind 24 = .ok (.aload_n 0, 1) := dk_42 (dk_at dksX6_readsWind_1 0 rfl rfl)
theorem dX6_readsWind_25 : decode cX6_readsWind 25 = .ok (.getfield 7, 3) := dk_180 0 7 (dk_at dksX6_readsWind_1 1 rfl rfl)
theorem dX6_readsWind_28 : decode cX6_readsWind 28 = .ok (.sipush 312, 3) := dk_17 1 56 (dk_at dksX6_readsWind_1 4 rfl rfl)
theorem dX6_readsWind_31 : decode cX6_readsWind 31 = .ok (.aload_n 0, 1) := dk_42 (dk_at dksX6_readsWind_1 7 rfl rfl)
theorem dX6_readsWind_32 : decode cX6_readsWind 32 = .ok (.invokevirtual 131, 3) := dk_182 0 131 (dk_at dksX6_readsWind_1 8 rfl rfl)
theorem dX6_readsWind_35 : decode cX6_readsWind 35 = .ok (.bipush 48, 2) := dk_16 48 (dk_at dksX6_readsWind_1 11 rfl rfl)
theorem dX6_readsWind_37 : decode cX6_readsWind 37 = .ok (.isub, 1) := dk_100 (dk_at dksX6_readsWind_1 13 rfl rfl)
theorem dX6_readsWind_38 : decode cX6_readsWind 38 = .ok (.iastore, 1) := dk_79 (dk_at dksX6_readsWind_1 14 rfl rfl)
theorem dX6_readsWind_39 : decode cX6_readsWind 39 = .ok (.aload_n 0, 1) := dk_42 (dk_at dksX6_readsWind_1 15 rfl rfl)
theorem dX6_readsWind_40 : decode cX6_readsWind 40 = .ok (.aload_n 0, 1) := dk_42 (dk_at dksX6_readsWind_1 16 rfl rfl)
theorem dX6_readsWind_41 : decode cX6_readsWind 41 = .ok (.getfield 125, 3) := dk_180 0 125 (dk_at dksX6_readsWind_1 17 rfl rfl)
theorem dX6_readsWind_44 : decode cX6_readsWind 44 = .ok (.iconst 1, 1) := dk_4 (dk_at dksX6_readsWind_1 20 rfl rfl)
theorem dX6_readsWind_45 : decode cX6_readsWind 45 = .ok (.iadd, 1) := dk_96 (dk_at dksX6_readsWind_1 21 rfl rfl)
theorem dX6_readsWind_46 : decode cX6_readsWind 46 = .ok (.putfield 125, 3) := dk_181 0 125 (dk_at dksX6_readsWind_2 0 rfl rfl)
theorem dX6_readsWind_49 : decode cX6_readsWind 49 = .ok (.iconst 1, 1) := dk_4 (dk_at dksX6_readsWind_2 3 rfl rfl)
theorem dX6_readsWind_50 : decode cX6_readsWind 50 = .ok (.ireturn, 1) := dk_172 (dk_at dksX6_readsWind_2 4 rfl rfl)
abbrev cX6_minutes : ByteArray := prog_20_method_68_code
def yX6_minutes : MethodName := ⟨RX6, "minutes", "(I)I"⟩
def dkwX6_minutes_0 : List UInt8 := [27, 4, 16, 100, 184, 0, 102, 154, 0, 5, 2, 172, 42, 27, 182, 1, 66, 42, 4, 182, 1, 69, 172]
abbrev dktX6_minutes_0 : List UInt8 := dkwX6_minutes_0 ++ []
theorem dksX6_minutes_0 : cX6_minutes.data.toList.drop 0 = dktX6_minutes_0 := by decide +kernel
theorem dX6_minutes_0 : decode cX6_minutes 0 = .ok (.iload_n 1, 1) := dk_27 (dk_at dksX6_minutes_0 0 rfl rfl)
theorem dX6_minutes_1 : decode cX6_minutes 1 = .ok (.iconst 1, 1) := dk_4 (dk_at dksX6_minutes_0 1 rfl rfl)
theorem dX6_minutes_2 : decode cX6_minutes 2 = .ok (.bipush 100, 2) := dk_16 100 (dk_at dksX6_minutes_0 2 rfl rfl)
theorem dX6_minutes_4 : decode cX6_minutes 4 = .ok (.invokestatic 102, 3) := dk_184 0 102 (dk_at dksX6_minutes_0 4 rfl rfl)
theorem dX6_minutes_7 : decode cX6_minutes 7 = .ok (.ifCond .ne 5, 3) := dk_154 0 5 (dk_at dksX6_minutes_0 7 rfl rfl)
theorem dX6_minutes_10 : decode cX6_minutes 10 = .ok (.iconst (-1), 1) := dk_2 (dk_at dksX6_minutes_0 10 rfl rfl)
theorem dX6_minutes_11 : decode cX6_minutes 11 = .ok (.ireturn, 1) := dk_172 (dk_at dksX6_minutes_0 11 rfl rfl)
theorem dX6_minutes_12 : decode cX6_minutes 12 = .ok (.aload_n 0, 1) := dk_42 (dk_at dksX6_minutes_0 12 rfl rfl)
theorem dX6_minutes_13 : decode cX6_minutes 13 = .ok (.iload_n 1, 1) := dk_27 (dk_at dksX6_minutes_0 13 rfl rfl)
theorem dX6_minutes_14 : decode cX6_minutes 14 = .ok (.invokevirtual 322, 3) := dk_182 1 66 (dk_at dksX6_minutes_0 14 rfl rfl)
theorem dX6_minutes_17 : decode cX6_minutes 17 = .ok (.aload_n 0, 1) := dk_42 (dk_at dksX6_minutes_0 17 rfl rfl)
theorem dX6_minutes_18 : decode cX6_minutes 18 = .ok (.iconst 1, 1) := dk_4 (dk_at dksX6_minutes_0 18 rfl rfl)
theorem dX6_minutes_19 : decode cX6_minutes 19 = .ok (.invokevirtual 325, 3) := dk_182 1 69 (dk_at dksX6_minutes_0 19 rfl rfl)
theorem dX6_minutes_22 : decode cX6_minutes 22 = .ok (.ireturn, 1) := dk_172 (dk_at dksX6_minutes_0 22 rfl rfl)
abbrev cX6_minutesGo : ByteArray := prog_20_method_66_code
def yX6_minutesGo : MethodName := ⟨RX6, "minutesGo", "(I)V"⟩
def dkwX6_minutesGo_1 : List UInt8 := [162, 0, 13, 42, 182, 1, 63, 132, 2, 1, 167, 255, 230, 177]
abbrev dktX6_minutesGo_1 : List UInt8 := dkwX6_minutesGo_1 ++ []
def dkwX6_minutesGo_0 : List UInt8 := [42, 3, 181, 1, 38, 3, 61, 28, 27, 162, 0, 27, 42, 180, 0, 7, 17, 1, 57, 46, 17, 39, 15]
abbrev dktX6_minutesGo_0 : List UInt8 := dkwX6_minutesGo_0 ++ dktX6_minutesGo_1
theorem dksX6_minutesGo_0 : cX6_minutesGo.data.toList.drop 0 = dktX6_minutesGo_0 := by decide +kernel
theorem dksX6_minutesGo_1 : cX6_minutesGo.data.toList.drop 23 = dktX6_minutesGo_1 := dk_seg dksX6_minutesGo_0 23 rfl rfl
theorem dX6_minutesGo_0 : decode cX6_minutesGo 0 = .ok (.aload_n 0, 1) := dk_42 (dk_at dksX6_minutesGo_0 0 rfl rfl)
theorem dX6_minutesGo_1 : decode cX6_minutesGo 1 = .ok (.iconst 0, 1) := dk_3 (dk_at dksX6_minutesGo_0 1 rfl rfl)
theorem dX6_minutesGo_2 : decode cX6_minutesGo 2 = .ok (.putfield 294, 3) := dk_181 1 38 (dk_at dksX6_minutesGo_0 2 rfl rfl)
theorem dX6_minutesGo_5 : decode cX6_minutesGo 5 = .ok (.iconst 0, 1) := dk_3 (dk_at dksX6_minutesGo_0 5 rfl rfl)
theorem dX6_minutesGo_6 : decode cX6_minutesGo 6 = .ok (.istore_n 2, 1) := dk_61 (dk_at dksX6_minutesGo_0 6 rfl rfl)
theorem dX6_minutesGo_7 : decode cX6_minutesGo 7 = .ok (.iload_n 2, 1) := dk_28 (dk_at dksX6_minutesGo_0 7 rfl rfl)
theorem dX6_minutesGo_8 : decode cX6_minutesGo 8 = .ok (.iload_n 1, 1) := dk_27 (dk_at dksX6_minutesGo_0 8 rfl rfl)
theorem dX6_minutesGo_9 : decode cX6_minutesGo 9 = .ok (.if_icmp .ge 27, 3) := dk_162 0 27 (dk_at dksX6_minutesGo_0 9 rfl rfl)
theorem dX6_minutesGo_12 : decode cX6_minutesGo 12 = .ok (.aload_n 0, 1) := dk_42 (dk_at dksX6_minutesGo_0 12 rfl rfl)
theorem dX6_minutesGo_13 : decode cX6_minutesGo 13 = .ok (.getfield 7, 3) := dk_180 0 7 (dk_at dksX6_minutesGo_0 13 rfl rfl)
theorem dX6_minutesGo_16 : decode cX6_minutesGo 16 = .ok (.sipush 313, 3) := dk_17 1 57 (dk_at dksX6_minutesGo_0 16 rfl rfl)
theorem dX6_minutesGo_19 : decode cX6_minutesGo 19 = .ok (.iaload, 1) := dk_46 (dk_at dksX6_minutesGo_0 19 rfl rfl)
theorem dX6_minutesGo_20 : decode cX6_minutesGo 20 = .ok (.sipush 9999, 3) := dk_17 39 15 (dk_at dksX6_minutesGo_0 20 rfl rfl)
theorem dX6_minutesGo_23 : decode cX6_minutesGo 23 = .ok (.if_icmp .ge 13, 3) := dk_162 0 13 (dk_at dksX6_minutesGo_1 0 rfl rfl)
theorem dX6_minutesGo_26 : decode cX6_minutesGo 26 = .ok (.aload_n 0, 1) := dk_42 (dk_at dksX6_minutesGo_1 3 rfl rfl)
theorem dX6_minutesGo_27 : decode cX6_minutesGo 27 = .ok (.invokevirtual 319, 3) := dk_182 1 63 (dk_at dksX6_minutesGo_1 4 rfl rfl)
theorem dX6_minutesGo_30 : decode cX6_minutesGo 30 = .ok (.iinc 2 1, 3) := dk_132 2 1 (dk_at dksX6_minutesGo_1 7 rfl rfl)
theorem dX6_minutesGo_33 : decode cX6_minutesGo 33 = .ok (.goto (-26), 3) := dk_167 255 230 (dk_at dksX6_minutesGo_1 10 rfl rfl)
theorem dX6_minutesGo_36 : decode cX6_minutesGo 36 = .ok (.return_, 1) := dk_177 (dk_at dksX6_minutesGo_1 13 rfl rfl)
abbrev cX6_minuteGoes : ByteArray := prog_20_method_65_code
def yX6_minuteGoes : MethodName := ⟨RX6, "minuteGoes", "()V"⟩
def dkwX6_minuteGoes_3 : List UInt8 := [17, 1, 57, 42, 180, 0, 7, 17, 1, 57, 46, 4, 96, 79, 177]
abbrev dktX6_minuteGoes_3 : List UInt8 := dkwX6_minuteGoes_3 ++ []
def dkwX6_minuteGoes_2 : List UInt8 := [180, 0, 71, 27, 51, 153, 0, 8, 42, 27, 182, 1, 60, 132, 1, 1, 167, 255, 233, 42, 180, 0, 7]
abbrev dktX6_minuteGoes_2 : List UInt8 := dkwX6_minuteGoes_2 ++ dktX6_minuteGoes_3
def dkwX6_minuteGoes_1 : List UInt8 := [160, 0, 7, 4, 167, 0, 4, 3, 84, 132, 1, 1, 167, 255, 224, 3, 60, 27, 16, 96, 162, 0, 23, 42]
abbrev dktX6_minuteGoes_1 : List UInt8 := dkwX6_minuteGoes_1 ++ dktX6_minuteGoes_2
def dkwX6_minuteGoes_0 : List UInt8 := [3, 60, 27, 16, 96, 162, 0, 32, 42, 180, 0, 71, 27, 42, 180, 0, 7, 3, 27, 96, 46, 4]
abbrev dktX6_minuteGoes_0 : List UInt8 := dkwX6_minuteGoes_0 ++ dktX6_minuteGoes_1
theorem dksX6_minuteGoes_0 : cX6_minuteGoes.data.toList.drop 0 = dktX6_minuteGoes_0 := by decide +kernel
theorem dksX6_minuteGoes_1 : cX6_minuteGoes.data.toList.drop 22 = dktX6_minuteGoes_1 := dk_seg dksX6_minuteGoes_0 22 rfl rfl
theorem dksX6_minuteGoes_2 : cX6_minuteGoes.data.toList.drop 46 = dktX6_minuteGoes_2 := dk_seg dksX6_minuteGoes_1 24 rfl rfl
theorem dksX6_minuteGoes_3 : cX6_minuteGoes.data.toList.drop 69 = dktX6_minuteGoes_3 := dk_seg dksX6_minuteGoes_2 23 rfl rfl
theorem dX6_minuteGoes_0 : decode cX6_minuteGoes 0 = .ok (.iconst 0, 1) := dk_3 (dk_at dksX6_minuteGoes_0 0 rfl rfl)
theorem dX6_minuteGoes_1 : decode cX6_minuteGoes 1 = .ok (.istore_n 1, 1) := dk_60 (dk_at dksX6_minuteGoes_0 1 rfl rfl)
theorem dX6_minuteGoes_2 : decode cX6_minuteGoes 2 = .ok (.iload_n 1, 1) := dk_27 (dk_at dksX6_minuteGoes_0 2 rfl rfl)
theorem dX6_minuteGoes_3 : decode cX6_minuteGoes 3 = .ok (.bipush 96, 2) := dk_16 96 (dk_at dksX6_minuteGoes_0 3 rfl rfl)
theorem dX6_minuteGoes_5 : decode cX6_minuteGoes 5 = .ok (.if_icmp .ge 32, 3) := dk_162 0 32 (dk_at dksX6_minuteGoes_0 5 rfl rfl)
theorem dX6_minuteGoes_8 : decode cX6_minuteGoes 8 = .ok (.aload_n 0, 1) := dk_42 (dk_at dksX6_minuteGoes_0 8 rfl rfl)
theorem dX6_minuteGoes_9 : decode cX6_minuteGoes 9 = .ok (.getfield 71, 3) := dk_180 0 71 (dk_at dksX6_minuteGoes_0 9 rfl rfl)
theorem dX6_minuteGoes_12 : decode cX6_minuteGoes 12 = .ok (.iload_n 1, 1) := dk_27 (dk_at dksX6_minuteGoes_0 12 rfl rfl)
theorem dX6_minuteGoes_13 : decode cX6_minuteGoes 13 = .ok (.aload_n 0, 1) := dk_42 (dk_at dksX6_minuteGoes_0 13 rfl rfl)
theorem dX6_minuteGoes_14 : decode cX6_minuteGoes 14 = .ok (.getfield 7, 3) := dk_180 0 7 (dk_at dksX6_minuteGoes_0 14 rfl rfl)
theorem dX6_minuteGoes_17 : decode cX6_minuteGoes 17 = .ok (.iconst 0, 1) := dk_3 (dk_at dksX6_minuteGoes_0 17 rfl rfl)
theorem dX6_minuteGoes_18 : decode cX6_minuteGoes 18 = .ok (.iload_n 1, 1) := dk_27 (dk_at dksX6_minuteGoes_0 18 rfl rfl)
theorem dX6_minuteGoes_19 : decode cX6_minuteGoes 19 = .ok (.iadd, 1) := dk_96 (dk_at dksX6_minuteGoes_0 19 rfl rfl)
theorem dX6_minuteGoes_20 : decode cX6_minuteGoes 20 = .ok (.iaload, 1) := dk_46 (dk_at dksX6_minuteGoes_0 20 rfl rfl)
theorem dX6_minuteGoes_21 : decode cX6_minuteGoes 21 = .ok (.iconst 1, 1) := dk_4 (dk_at dksX6_minuteGoes_0 21 rfl rfl)
theorem dX6_minuteGoes_22 : decode cX6_minuteGoes 22 = .ok (.if_icmp .ne 7, 3) := dk_160 0 7 (dk_at dksX6_minuteGoes_1 0 rfl rfl)
theorem dX6_minuteGoes_25 : decode cX6_minuteGoes 25 = .ok (.iconst 1, 1) := dk_4 (dk_at dksX6_minuteGoes_1 3 rfl rfl)
theorem dX6_minuteGoes_26 : decode cX6_minuteGoes 26 = .ok (.goto 4, 3) := dk_167 0 4 (dk_at dksX6_minuteGoes_1 4 rfl rfl)
theorem dX6_minuteGoes_29 : decode cX6_minuteGoes 29 = .ok (.iconst 0, 1) := dk_3 (dk_at dksX6_minuteGoes_1 7 rfl rfl)
theorem dX6_minuteGoes_30 : decode cX6_minuteGoes 30 = .ok (.bastore, 1) := dk_84 (dk_at dksX6_minuteGoes_1 8 rfl rfl)
theorem dX6_minuteGoes_31 : decode cX6_minuteGoes 31 = .ok (.iinc 1 1, 3) := dk_132 1 1 (dk_at dksX6_minuteGoes_1 9 rfl rfl)
theorem dX6_minuteGoes_34 : decode cX6_minuteGoes 34 = .ok (.goto (-32), 3) := dk_167 255 224 (dk_at dksX6_minuteGoes_1 12 rfl rfl)
theorem dX6_minuteGoes_37 : decode cX6_minuteGoes 37 = .ok (.iconst 0, 1) := dk_3 (dk_at dksX6_minuteGoes_1 15 rfl rfl)
theorem dX6_minuteGoes_38 : decode cX6_minuteGoes 38 = .ok (.istore_n 1, 1) := dk_60 (dk_at dksX6_minuteGoes_1 16 rfl rfl)
theorem dX6_minuteGoes_39 : decode cX6_minuteGoes 39 = .ok (.iload_n 1, 1) := dk_27 (dk_at dksX6_minuteGoes_1 17 rfl rfl)
theorem dX6_minuteGoes_40 : decode cX6_minuteGoes 40 = .ok (.bipush 96, 2) := dk_16 96 (dk_at dksX6_minuteGoes_1 18 rfl rfl)
theorem dX6_minuteGoes_42 : decode cX6_minuteGoes 42 = .ok (.if_icmp .ge 23, 3) := dk_162 0 23 (dk_at dksX6_minuteGoes_1 20 rfl rfl)
theorem dX6_minuteGoes_45 : decode cX6_minuteGoes 45 = .ok (.aload_n 0, 1) := dk_42 (dk_at dksX6_minuteGoes_1 23 rfl rfl)
theorem dX6_minuteGoes_46 : decode cX6_minuteGoes 46 = .ok (.getfield 71, 3) := dk_180 0 71 (dk_at dksX6_minuteGoes_2 0 rfl rfl)
theorem dX6_minuteGoes_49 : decode cX6_minuteGoes 49 = .ok (.iload_n 1, 1) := dk_27 (dk_at dksX6_minuteGoes_2 3 rfl rfl)
theorem dX6_minuteGoes_50 : decode cX6_minuteGoes 50 = .ok (.baload, 1) := dk_51 (dk_at dksX6_minuteGoes_2 4 rfl rfl)
theorem dX6_minuteGoes_51 : decode cX6_minuteGoes 51 = .ok (.ifCond .eq 8, 3) := dk_153 0 8 (dk_at dksX6_minuteGoes_2 5 rfl rfl)
theorem dX6_minuteGoes_54 : decode cX6_minuteGoes 54 = .ok (.aload_n 0, 1) := dk_42 (dk_at dksX6_minuteGoes_2 8 rfl rfl)
theorem dX6_minuteGoes_55 : decode cX6_minuteGoes 55 = .ok (.iload_n 1, 1) := dk_27 (dk_at dksX6_minuteGoes_2 9 rfl rfl)
theorem dX6_minuteGoes_56 : decode cX6_minuteGoes 56 = .ok (.invokevirtual 316, 3) := dk_182 1 60 (dk_at dksX6_minuteGoes_2 10 rfl rfl)
theorem dX6_minuteGoes_59 : decode cX6_minuteGoes 59 = .ok (.iinc 1 1, 3) := dk_132 1 1 (dk_at dksX6_minuteGoes_2 13 rfl rfl)
theorem dX6_minuteGoes_62 : decode cX6_minuteGoes 62 = .ok (.goto (-23), 3) := dk_167 255 233 (dk_at dksX6_minuteGoes_2 16 rfl rfl)
theorem dX6_minuteGoes_65 : decode cX6_minuteGoes 65 = .ok (.aload_n 0, 1) := dk_42 (dk_at dksX6_minuteGoes_2 19 rfl rfl)
theorem dX6_minuteGoes_66 : decode cX6_minuteGoes 66 = .ok (.getfield 7, 3) := dk_180 0 7 (dk_at dksX6_minuteGoes_2 20 rfl rfl)
theorem dX6_minuteGoes_69 : decode cX6_minuteGoes 69 = .ok (.sipush 313, 3) := dk_17 1 57 (dk_at dksX6_minuteGoes_3 0 rfl rfl)
theorem dX6_minuteGoes_72 : decode cX6_minuteGoes 72 = .ok (.aload_n 0, 1) := dk_42 (dk_at dksX6_minuteGoes_3 3 rfl rfl)
theorem dX6_minuteGoes_73 : decode cX6_minuteGoes 73 = .ok (.getfield 7, 3) := dk_180 0 7 (dk_at dksX6_minuteGoes_3 4 rfl rfl)
theorem dX6_minuteGoes_76 : decode cX6_minuteGoes 76 = .ok (.sipush 313, 3) := dk_17 1 57 (dk_at dksX6_minuteGoes_3 7 rfl rfl)
theorem dX6_minuteGoes_79 : decode cX6_minuteGoes 79 = .ok (.iaload, 1) := dk_46 (dk_at dksX6_minuteGoes_3 10 rfl rfl)
theorem dX6_minuteGoes_80 : decode cX6_minuteGoes 80 = .ok (.iconst 1, 1) := dk_4 (dk_at dksX6_minuteGoes_3 11 rfl rfl)
theorem dX6_minuteGoes_81 : decode cX6_minuteGoes 81 = .ok (.iadd, 1) := dk_96 (dk_at dksX6_minuteGoes_3 12 rfl rfl)
theorem dX6_minuteGoes_82 : decode cX6_minuteGoes 82 = .ok (.iastore, 1) := dk_79 (dk_at dksX6_minuteGoes_3 13 rfl rfl)
theorem dX6_minuteGoes_83 : decode cX6_minuteGoes 83 = .ok (.return_, 1) := dk_177 (dk_at dksX6_minuteGoes_3 14 rfl rfl)
abbrev cX6_turnOf : ByteArray := prog_20_method_64_code
def yX6_turnOf : MethodName := ⟨RX6, "turnOf", "(I)V"⟩
def dkwX6_turnOf_4 : List UInt8 := [3, 27, 96, 5, 79, 177]
abbrev dktX6_turnOf_4 : List UInt8 := dkwX6_turnOf_4 ++ []
def dkwX6_turnOf_3 : List UInt8 := [16, 96, 27, 96, 46, 4, 100, 79, 42, 180, 0, 7, 16, 96, 27, 96, 46, 154, 0, 12, 42, 180, 0, 7]
abbrev dktX6_turnOf_3 : List UInt8 := dkwX6_turnOf_3 ++ dktX6_turnOf_4
def dkwX6_turnOf_2 : List UInt8 := [182, 1, 57, 61, 42, 180, 0, 7, 16, 96, 27, 96, 28, 153, 0, 7, 3, 167, 0, 14, 42, 180, 0, 7]
abbrev dktX6_turnOf_2 : List UInt8 := dkwX6_turnOf_2 ++ dktX6_turnOf_3
def dkwX6_turnOf_1 : List UInt8 := [42, 27, 42, 180, 0, 7, 16, 96, 27, 96, 46, 3, 42, 182, 1, 48, 182, 1, 41, 42, 16, 120]
abbrev dktX6_turnOf_1 : List UInt8 := dkwX6_turnOf_1 ++ dktX6_turnOf_2
def dkwX6_turnOf_0 : List UInt8 := [42, 27, 182, 1, 51, 3, 61, 28, 7, 162, 0, 15, 42, 27, 28, 182, 1, 54, 132, 2, 1, 167, 255, 242]
abbrev dktX6_turnOf_0 : List UInt8 := dkwX6_turnOf_0 ++ dktX6_turnOf_1
theorem dksX6_turnOf_0 : cX6_turnOf.data.toList.drop 0 = dktX6_turnOf_0 := by decide +kernel
theorem dksX6_turnOf_1 : cX6_turnOf.data.toList.drop 24 = dktX6_turnOf_1 := dk_seg dksX6_turnOf_0 24 rfl rfl
theorem dksX6_turnOf_2 : cX6_turnOf.data.toList.drop 46 = dktX6_turnOf_2 := dk_seg dksX6_turnOf_1 22 rfl rfl
theorem dksX6_turnOf_3 : cX6_turnOf.data.toList.drop 70 = dktX6_turnOf_3 := dk_seg dksX6_turnOf_2 24 rfl rfl
theorem dksX6_turnOf_4 : cX6_turnOf.data.toList.drop 94 = dktX6_turnOf_4 := dk_seg dksX6_turnOf_3 24 rfl rfl
theorem dX6_turnOf_0 : decode cX6_turnOf 0 = .ok (.aload_n 0, 1) := dk_42 (dk_at dksX6_turnOf_0 0 rfl rfl)
theorem dX6_turnOf_1 : decode cX6_turnOf 1 = .ok (.iload_n 1, 1) := dk_27 (dk_at dksX6_turnOf_0 1 rfl rfl)
theorem dX6_turnOf_2 : decode cX6_turnOf 2 = .ok (.invokevirtual 307, 3) := dk_182 1 51 (dk_at dksX6_turnOf_0 2 rfl rfl)
theorem dX6_turnOf_5 : decode cX6_turnOf 5 = .ok (.iconst 0, 1) := dk_3 (dk_at dksX6_turnOf_0 5 rfl rfl)
theorem dX6_turnOf_6 : decode cX6_turnOf 6 = .ok (.istore_n 2, 1) := dk_61 (dk_at dksX6_turnOf_0 6 rfl rfl)
theorem dX6_turnOf_7 : decode cX6_turnOf 7 = .ok (.iload_n 2, 1) := dk_28 (dk_at dksX6_turnOf_0 7 rfl rfl)
theorem dX6_turnOf_8 : decode cX6_turnOf 8 = .ok (.iconst 4, 1) := dk_7 (dk_at dksX6_turnOf_0 8 rfl rfl)
theorem dX6_turnOf_9 : decode cX6_turnOf 9 = .ok (.if_icmp .ge 15, 3) := dk_162 0 15 (dk_at dksX6_turnOf_0 9 rfl rfl)
theorem dX6_turnOf_12 : decode cX6_turnOf 12 = .ok (.aload_n 0, 1) := dk_42 (dk_at dksX6_turnOf_0 12 rfl rfl)
theorem dX6_turnOf_13 : decode cX6_turnOf 13 = .ok (.iload_n 1, 1) := dk_27 (dk_at dksX6_turnOf_0 13 rfl rfl)
theorem dX6_turnOf_14 : decode cX6_turnOf 14 = .ok (.iload_n 2, 1) := dk_28 (dk_at dksX6_turnOf_0 14 rfl rfl)
theorem dX6_turnOf_15 : decode cX6_turnOf 15 = .ok (.invokevirtual 310, 3) := dk_182 1 54 (dk_at dksX6_turnOf_0 15 rfl rfl)
theorem dX6_turnOf_18 : decode cX6_turnOf 18 = .ok (.iinc 2 1, 3) := dk_132 2 1 (dk_at dksX6_turnOf_0 18 rfl rfl)
theorem dX6_turnOf_21 : decode cX6_turnOf 21 = .ok (.goto (-14), 3) := dk_167 255 242 (dk_at dksX6_turnOf_0 21 rfl rfl)
theorem dX6_turnOf_24 : decode cX6_turnOf 24 = .ok (.aload_n 0, 1) := dk_42 (dk_at dksX6_turnOf_1 0 rfl rfl)
theorem dX6_turnOf_25 : decode cX6_turnOf 25 = .ok (.iload_n 1, 1) := dk_27 (dk_at dksX6_turnOf_1 1 rfl rfl)
theorem dX6_turnOf_26 : decode cX6_turnOf 26 = .ok (.aload_n 0, 1) := dk_42 (dk_at dksX6_turnOf_1 2 rfl rfl)
theorem dX6_turnOf_27 : decode cX6_turnOf 27 = .ok (.getfield 7, 3) := dk_180 0 7 (dk_at dksX6_turnOf_1 3 rfl rfl)
theorem dX6_turnOf_30 : decode cX6_turnOf 30 = .ok (.bipush 96, 2) := dk_16 96 (dk_at dksX6_turnOf_1 6 rfl rfl)
theorem dX6_turnOf_32 : decode cX6_turnOf 32 = .ok (.iload_n 1, 1) := dk_27 (dk_at dksX6_turnOf_1 8 rfl rfl)
theorem dX6_turnOf_33 : decode cX6_turnOf 33 = .ok (.iadd, 1) := dk_96 (dk_at dksX6_turnOf_1 9 rfl rfl)
theorem dX6_turnOf_34 : decode cX6_turnOf 34 = .ok (.iaload, 1) := dk_46 (dk_at dksX6_turnOf_1 10 rfl rfl)
theorem dX6_turnOf_35 : decode cX6_turnOf 35 = .ok (.iconst 0, 1) := dk_3 (dk_at dksX6_turnOf_1 11 rfl rfl)
theorem dX6_turnOf_36 : decode cX6_turnOf 36 = .ok (.aload_n 0, 1) := dk_42 (dk_at dksX6_turnOf_1 12 rfl rfl)
theorem dX6_turnOf_37 : decode cX6_turnOf 37 = .ok (.invokevirtual 304, 3) := dk_182 1 48 (dk_at dksX6_turnOf_1 13 rfl rfl)
theorem dX6_turnOf_40 : decode cX6_turnOf 40 = .ok (.invokevirtual 297, 3) := dk_182 1 41 (dk_at dksX6_turnOf_1 16 rfl rfl)
theorem dX6_turnOf_43 : decode cX6_turnOf 43 = .ok (.aload_n 0, 1) := dk_42 (dk_at dksX6_turnOf_1 19 rfl rfl)
theorem dX6_turnOf_44 : decode cX6_turnOf 44 = .ok (.bipush 120, 2) := dk_16 120 (dk_at dksX6_turnOf_1 20 rfl rfl)
theorem dX6_turnOf_46 : decode cX6_turnOf 46 = .ok (.invokevirtual 313, 3) := dk_182 1 57 (dk_at dksX6_turnOf_2 0 rfl rfl)
theorem dX6_turnOf_49 : decode cX6_turnOf 49 = .ok (.istore_n 2, 1) := dk_61 (dk_at dksX6_turnOf_2 3 rfl rfl)
theorem dX6_turnOf_50 : decode cX6_turnOf 50 = .ok (.aload_n 0, 1) := dk_42 (dk_at dksX6_turnOf_2 4 rfl rfl)
theorem dX6_turnOf_51 : decode cX6_turnOf 51 = .ok (.getfield 7, 3) := dk_180 0 7 (dk_at dksX6_turnOf_2 5 rfl rfl)
theorem dX6_turnOf_54 : decode cX6_turnOf 54 = .ok (.bipush 96, 2) := dk_16 96 (dk_at dksX6_turnOf_2 8 rfl rfl)
theorem dX6_turnOf_56 : decode cX6_turnOf 56 = .ok (.iload_n 1, 1) := dk_27 (dk_at dksX6_turnOf_2 10 rfl rfl)
theorem dX6_turnOf_57 : decode cX6_turnOf 57 = .ok (.iadd, 1) := dk_96 (dk_at dksX6_turnOf_2 11 rfl rfl)
theorem dX6_turnOf_58 : decode cX6_turnOf 58 = .ok (.iload_n 2, 1) := dk_28 (dk_at dksX6_turnOf_2 12 rfl rfl)
theorem dX6_turnOf_59 : decode cX6_turnOf 59 = .ok (.ifCond .eq 7, 3) := dk_153 0 7 (dk_at dksX6_turnOf_2 13 rfl rfl)
theorem dX6_turnOf_62 : decode cX6_turnOf 62 = .ok (.iconst 0, 1) := dk_3 (dk_at dksX6_turnOf_2 16 rfl rfl)
theorem dX6_turnOf_63 : decode cX6_turnOf 63 = .ok (.goto 14, 3) := dk_167 0 14 (dk_at dksX6_turnOf_2 17 rfl rfl)
theorem dX6_turnOf_66 : decode cX6_turnOf 66 = .ok (.aload_n 0, 1) := dk_42 (dk_at dksX6_turnOf_2 20 rfl rfl)
theorem dX6_turnOf_67 : decode cX6_turnOf 67 = .ok (.getfield 7, 3) := dk_180 0 7 (dk_at dksX6_turnOf_2 21 rfl rfl)
theorem dX6_turnOf_70 : decode cX6_turnOf 70 = .ok (.bipush 96, 2) := dk_16 96 (dk_at dksX6_turnOf_3 0 rfl rfl)
theorem dX6_turnOf_72 : decode cX6_turnOf 72 = .ok (.iload_n 1, 1) := dk_27 (dk_at dksX6_turnOf_3 2 rfl rfl)
theorem dX6_turnOf_73 : decode cX6_turnOf 73 = .ok (.iadd, 1) := dk_96 (dk_at dksX6_turnOf_3 3 rfl rfl)
theorem dX6_turnOf_74 : decode cX6_turnOf 74 = .ok (.iaload, 1) := dk_46 (dk_at dksX6_turnOf_3 4 rfl rfl)
theorem dX6_turnOf_75 : decode cX6_turnOf 75 = .ok (.iconst 1, 1) := dk_4 (dk_at dksX6_turnOf_3 5 rfl rfl)
theorem dX6_turnOf_76 : decode cX6_turnOf 76 = .ok (.isub, 1) := dk_100 (dk_at dksX6_turnOf_3 6 rfl rfl)
theorem dX6_turnOf_77 : decode cX6_turnOf 77 = .ok (.iastore, 1) := dk_79 (dk_at dksX6_turnOf_3 7 rfl rfl)
theorem dX6_turnOf_78 : decode cX6_turnOf 78 = .ok (.aload_n 0, 1) := dk_42 (dk_at dksX6_turnOf_3 8 rfl rfl)
theorem dX6_turnOf_79 : decode cX6_turnOf 79 = .ok (.getfield 7, 3) := dk_180 0 7 (dk_at dksX6_turnOf_3 9 rfl rfl)
theorem dX6_turnOf_82 : decode cX6_turnOf 82 = .ok (.bipush 96, 2) := dk_16 96 (dk_at dksX6_turnOf_3 12 rfl rfl)
theorem dX6_turnOf_84 : decode cX6_turnOf 84 = .ok (.iload_n 1, 1) := dk_27 (dk_at dksX6_turnOf_3 14 rfl rfl)
theorem dX6_turnOf_85 : decode cX6_turnOf 85 = .ok (.iadd, 1) := dk_96 (dk_at dksX6_turnOf_3 15 rfl rfl)
theorem dX6_turnOf_86 : decode cX6_turnOf 86 = .ok (.iaload, 1) := dk_46 (dk_at dksX6_turnOf_3 16 rfl rfl)
theorem dX6_turnOf_87 : decode cX6_turnOf 87 = .ok (.ifCond .ne 12, 3) := dk_154 0 12 (dk_at dksX6_turnOf_3 17 rfl rfl)
theorem dX6_turnOf_90 : decode cX6_turnOf 90 = .ok (.aload_n 0, 1) := dk_42 (dk_at dksX6_turnOf_3 20 rfl rfl)
theorem dX6_turnOf_91 : decode cX6_turnOf 91 = .ok (.getfield 7, 3) := dk_180 0 7 (dk_at dksX6_turnOf_3 21 rfl rfl)
theorem dX6_turnOf_94 : decode cX6_turnOf 94 = .ok (.iconst 0, 1) := dk_3 (dk_at dksX6_turnOf_4 0 rfl rfl)
theorem dX6_turnOf_95 : decode cX6_turnOf 95 = .ok (.iload_n 1, 1) := dk_27 (dk_at dksX6_turnOf_4 1 rfl rfl)
theorem dX6_turnOf_96 : decode cX6_turnOf 96 = .ok (.iadd, 1) := dk_96 (dk_at dksX6_turnOf_4 2 rfl rfl)
theorem dX6_turnOf_97 : decode cX6_turnOf 97 = .ok (.iconst 2, 1) := dk_5 (dk_at dksX6_turnOf_4 3 rfl rfl)
theorem dX6_turnOf_98 : decode cX6_turnOf 98 = .ok (.iastore, 1) := dk_79 (dk_at dksX6_turnOf_4 4 rfl rfl)
theorem dX6_turnOf_99 : decode cX6_turnOf 99 = .ok (.return_, 1) := dk_177 (dk_at dksX6_turnOf_4 5 rfl rfl)
abbrev cX6_takesThings : ByteArray := prog_20_method_62_code
def yX6_takesThings : MethodName := ⟨RX6, "takesThings", "(I)V"⟩
def dkwX6_takesThings_2 : List UInt8 := [180, 1, 38, 42, 180, 0, 7, 17, 0, 240, 28, 96, 46, 96, 181, 1, 38, 132, 2, 1, 167, 255, 192, 177]
abbrev dktX6_takesThings_2 : List UInt8 := dkwX6_takesThings_2 ++ []
def dkwX6_takesThings_1 : List UInt8 := [28, 96, 46, 153, 0, 6, 167, 0, 33, 42, 180, 0, 7, 17, 1, 32, 28, 96, 4, 79, 42, 42]
abbrev dktX6_takesThings_1 : List UInt8 := dkwX6_takesThings_1 ++ dktX6_takesThings_2
def dkwX6_takesThings_0 : List UInt8 := [3, 61, 28, 16, 24, 162, 0, 64, 42, 28, 27, 182, 1, 22, 153, 0, 49, 42, 180, 0, 7, 17, 1, 8]
abbrev dktX6_takesThings_0 : List UInt8 := dkwX6_takesThings_0 ++ dktX6_takesThings_1
theorem dksX6_takesThings_0 : cX6_takesThings.data.toList.drop 0 = dktX6_takesThings_0 := by decide +kernel
theorem dksX6_takesThings_1 : cX6_takesThings.data.toList.drop 24 = dktX6_takesThings_1 := dk_seg dksX6_takesThings_0 24 rfl rfl
theorem dksX6_takesThings_2 : cX6_takesThings.data.toList.drop 46 = dktX6_takesThings_2 := dk_seg dksX6_takesThings_1 22 rfl rfl
theorem dX6_takesThings_0 : decode cX6_takesThings 0 = .ok (.iconst 0, 1) := dk_3 (dk_at dksX6_takesThings_0 0 rfl rfl)
theorem dX6_takesThings_1 : decode cX6_takesThings 1 = .ok (.istore_n 2, 1) := dk_61 (dk_at dksX6_takesThings_0 1 rfl rfl)
theorem dX6_takesThings_2 : decode cX6_takesThings 2 = .ok (.iload_n 2, 1) := dk_28 (dk_at dksX6_takesThings_0 2 rfl rfl)
theorem dX6_takesThings_3 : decode cX6_takesThings 3 = .ok (.bipush 24, 2) := dk_16 24 (dk_at dksX6_takesThings_0 3 rfl rfl)
theorem dX6_takesThings_5 : decode cX6_takesThings 5 = .ok (.if_icmp .ge 64, 3) := dk_162 0 64 (dk_at dksX6_takesThings_0 5 rfl rfl)
theorem dX6_takesThings_8 : decode cX6_takesThings 8 = .ok (.aload_n 0, 1) := dk_42 (dk_at dksX6_takesThings_0 8 rfl rfl)
theorem dX6_takesThings_9 : decode cX6_takesThings 9 = .ok (.iload_n 2, 1) := dk_28 (dk_at dksX6_takesThings_0 9 rfl rfl)
theorem dX6_takesThings_10 : decode cX6_takesThings 10 = .ok (.iload_n 1, 1) := dk_27 (dk_at dksX6_takesThings_0 10 rfl rfl)
theorem dX6_takesThings_11 : decode cX6_takesThings 11 = .ok (.invokevirtual 278, 3) := dk_182 1 22 (dk_at dksX6_takesThings_0 11 rfl rfl)
theorem dX6_takesThings_14 : decode cX6_takesThings 14 = .ok (.ifCond .eq 49, 3) := dk_153 0 49 (dk_at dksX6_takesThings_0 14 rfl rfl)
theorem dX6_takesThings_17 : decode cX6_takesThings 17 = .ok (.aload_n 0, 1) := dk_42 (dk_at dksX6_takesThings_0 17 rfl rfl)
theorem dX6_takesThings_18 : decode cX6_takesThings 18 = .ok (.getfield 7, 3) := dk_180 0 7 (dk_at dksX6_takesThings_0 18 rfl rfl)
theorem dX6_takesThings_21 : decode cX6_takesThings 21 = .ok (.sipush 264, 3) := dk_17 1 8 (dk_at dksX6_takesThings_0 21 rfl rfl)
theorem dX6_takesThings_24 : decode cX6_takesThings 24 = .ok (.iload_n 2, 1) := dk_28 (dk_at dksX6_takesThings_1 0 rfl rfl)
theorem dX6_takesThings_25 : decode cX6_takesThings 25 = .ok (.iadd, 1) := dk_96 (dk_at dksX6_takesThings_1 1 rfl rfl)
theorem dX6_takesThings_26 : decode cX6_takesThings 26 = .ok (.iaload, 1) := dk_46 (dk_at dksX6_takesThings_1 2 rfl rfl)
theorem dX6_takesThings_27 : decode cX6_takesThings 27 = .ok (.ifCond .eq 6, 3) := dk_153 0 6 (dk_at dksX6_takesThings_1 3 rfl rfl)
theorem dX6_takesThings_30 : decode cX6_takesThings 30 = .ok (.goto 33, 3) := dk_167 0 33 (dk_at dksX6_takesThings_1 6 rfl rfl)
theorem dX6_takesThings_33 : decode cX6_takesThings 33 = .ok (.aload_n 0, 1) := dk_42 (dk_at dksX6_takesThings_1 9 rfl rfl)
theorem dX6_takesThings_34 : decode cX6_takesThings 34 = .ok (.getfield 7, 3) := dk_180 0 7 (dk_at dksX6_takesThings_1 10 rfl rfl)
theorem dX6_takesThings_37 : decode cX6_takesThings 37 = .ok (.sipush 288, 3) := dk_17 1 32 (dk_at dksX6_takesThings_1 13 rfl rfl)
theorem dX6_takesThings_40 : decode cX6_takesThings 40 = .ok (.iload_n 2, 1) := dk_28 (dk_at dksX6_takesThings_1 16 rfl rfl)
theorem dX6_takesThings_41 : decode cX6_takesThings 41 = .ok (.iadd, 1) := dk_96 (dk_at dksX6_takesThings_1 17 rfl rfl)
theorem dX6_takesThings_42 : decode cX6_takesThings 42 = .ok (.iconst 1, 1) := dk_4 (dk_at dksX6_takesThings_1 18 rfl rfl)
theorem dX6_takesThings_43 : decode cX6_takesThings 43 = .ok (.iastore, 1) := dk_79 (dk_at dksX6_takesThings_1 19 rfl rfl)
theorem dX6_takesThings_44 : decode cX6_takesThings 44 = .ok (.aload_n 0, 1) := dk_42 (dk_at dksX6_takesThings_1 20 rfl rfl)
theorem dX6_takesThings_45 : decode cX6_takesThings 45 = .ok (.aload_n 0, 1) := dk_42 (dk_at dksX6_takesThings_1 21 rfl rfl)
theorem dX6_takesThings_46 : decode cX6_takesThings 46 = .ok (.getfield 294, 3) := dk_180 1 38 (dk_at dksX6_takesThings_2 0 rfl rfl)
theorem dX6_takesThings_49 : decode cX6_takesThings 49 = .ok (.aload_n 0, 1) := dk_42 (dk_at dksX6_takesThings_2 3 rfl rfl)
theorem dX6_takesThings_50 : decode cX6_takesThings 50 = .ok (.getfield 7, 3) := dk_180 0 7 (dk_at dksX6_takesThings_2 4 rfl rfl)
theorem dX6_takesThings_53 : decode cX6_takesThings 53 = .ok (.sipush 240, 3) := dk_17 0 240 (dk_at dksX6_takesThings_2 7 rfl rfl)
theorem dX6_takesThings_56 : decode cX6_takesThings 56 = .ok (.iload_n 2, 1) := dk_28 (dk_at dksX6_takesThings_2 10 rfl rfl)
theorem dX6_takesThings_57 : decode cX6_takesThings 57 = .ok (.iadd, 1) := dk_96 (dk_at dksX6_takesThings_2 11 rfl rfl)
theorem dX6_takesThings_58 : decode cX6_takesThings 58 = .ok (.iaload, 1) := dk_46 (dk_at dksX6_takesThings_2 12 rfl rfl)
theorem dX6_takesThings_59 : decode cX6_takesThings 59 = .ok (.iadd, 1) := dk_96 (dk_at dksX6_takesThings_2 13 rfl rfl)
theorem dX6_takesThings_60 : decode cX6_takesThings 60 = .ok (.putfield 294, 3) := dk_181 1 38 (dk_at dksX6_takesThings_2 14 rfl rfl)
theorem dX6_takesThings_63 : decode cX6_takesThings 63 = .ok (.iinc 2 1, 3) := dk_132 2 1 (dk_at dksX6_takesThings_2 17 rfl rfl)
theorem dX6_takesThings_66 : decode cX6_takesThings 66 = .ok (.goto (-64), 3) := dk_167 255 192 (dk_at dksX6_takesThings_2 20 rfl rfl)
theorem dX6_takesThings_69 : decode cX6_takesThings 69 = .ok (.return_, 1) := dk_177 (dk_at dksX6_takesThings_2 23 rfl rfl)
abbrev cX6_liesAt : ByteArray := prog_20_method_14_code
def yX6_liesAt : MethodName := ⟨RX6, "liesAt", "(II)Z"⟩
def dkwX6_liesAt_1 : List UInt8 := [180, 0, 7, 17, 0, 216, 27, 96, 46, 28, 160, 0, 7, 4, 167, 0, 4, 3, 172]
abbrev dktX6_liesAt_1 : List UInt8 := dkwX6_liesAt_1 ++ []
def dkwX6_liesAt_0 : List UInt8 := [42, 27, 182, 0, 114, 153, 0, 34, 42, 180, 0, 7, 17, 1, 32, 27, 96, 46, 154, 0, 21, 42]
abbrev dktX6_liesAt_0 : List UInt8 := dkwX6_liesAt_0 ++ dktX6_liesAt_1
theorem dksX6_liesAt_0 : cX6_liesAt.data.toList.drop 0 = dktX6_liesAt_0 := by decide +kernel
theorem dksX6_liesAt_1 : cX6_liesAt.data.toList.drop 22 = dktX6_liesAt_1 := dk_seg dksX6_liesAt_0 22 rfl rfl
theorem dX6_liesAt_0 : decode cX6_liesAt 0 = .ok (.aload_n 0, 1) := dk_42 (dk_at dksX6_liesAt_0 0 rfl rfl)
theorem dX6_liesAt_1 : decode cX6_liesAt 1 = .ok (.iload_n 1, 1) := dk_27 (dk_at dksX6_liesAt_0 1 rfl rfl)
theorem dX6_liesAt_2 : decode cX6_liesAt 2 = .ok (.invokevirtual 114, 3) := dk_182 0 114 (dk_at dksX6_liesAt_0 2 rfl rfl)
theorem dX6_liesAt_5 : decode cX6_liesAt 5 = .ok (.ifCond .eq 34, 3) := dk_153 0 34 (dk_at dksX6_liesAt_0 5 rfl rfl)
theorem dX6_liesAt_8 : decode cX6_liesAt 8 = .ok (.aload_n 0, 1) := dk_42 (dk_at dksX6_liesAt_0 8 rfl rfl)
theorem dX6_liesAt_9 : decode cX6_liesAt 9 = .ok (.getfield 7, 3) := dk_180 0 7 (dk_at dksX6_liesAt_0 9 rfl rfl)
theorem dX6_liesAt_12 : decode cX6_liesAt 12 = .ok (.sipush 288, 3) := dk_17 1 32 (dk_at dksX6_liesAt_0 12 rfl rfl)
theorem dX6_liesAt_15 : decode cX6_liesAt 15 = .ok (.iload_n 1, 1) := dk_27 (dk_at dksX6_liesAt_0 15 rfl rfl)
theorem dX6_liesAt_16 : decode cX6_liesAt 16 = .ok (.iadd, 1) := dk_96 (dk_at dksX6_liesAt_0 16 rfl rfl)
theorem dX6_liesAt_17 : decode cX6_liesAt 17 = .ok (.iaload, 1) := dk_46 (dk_at dksX6_liesAt_0 17 rfl rfl)
theorem dX6_liesAt_18 : decode cX6_liesAt 18 = .ok (.ifCond .ne 21, 3) := dk_154 0 21 (dk_at dksX6_liesAt_0 18 rfl rfl)
theorem dX6_liesAt_21 : decode cX6_liesAt 21 = .ok (.aload_n 0, 1) := dk_42 (dk_at dksX6_liesAt_0 21 rfl rfl)
theorem dX6_liesAt_22 : decode cX6_liesAt 22 = .ok (.getfield 7, 3) := dk_180 0 7 (dk_at dksX6_liesAt_1 0 rfl rfl)
theorem dX6_liesAt_25 : decode cX6_liesAt 25 = .ok (.sipush 216, 3) := dk_17 0 216 (dk_at dksX6_liesAt_1 3 rfl rfl)
theorem dX6_liesAt_28 : decode cX6_liesAt 28 = .ok (.iload_n 1, 1) := dk_27 (dk_at dksX6_liesAt_1 6 rfl rfl)
theorem dX6_liesAt_29 : decode cX6_liesAt 29 = .ok (.iadd, 1) := dk_96 (dk_at dksX6_liesAt_1 7 rfl rfl)
theorem dX6_liesAt_30 : decode cX6_liesAt 30 = .ok (.iaload, 1) := dk_46 (dk_at dksX6_liesAt_1 8 rfl rfl)
theorem dX6_liesAt_31 : decode cX6_liesAt 31 = .ok (.iload_n 2, 1) := dk_28 (dk_at dksX6_liesAt_1 9 rfl rfl)
theorem dX6_liesAt_32 : decode cX6_liesAt 32 = .ok (.if_icmp .ne 7, 3) := dk_160 0 7 (dk_at dksX6_liesAt_1 10 rfl rfl)
theorem dX6_liesAt_35 : decode cX6_liesAt 35 = .ok (.iconst 1, 1) := dk_4 (dk_at dksX6_liesAt_1 13 rfl rfl)
theorem dX6_liesAt_36 : decode cX6_liesAt 36 = .ok (.goto 4, 3) := dk_167 0 4 (dk_at dksX6_liesAt_1 14 rfl rfl)
theorem dX6_liesAt_39 : decode cX6_liesAt 39 = .ok (.iconst 0, 1) := dk_3 (dk_at dksX6_liesAt_1 17 rfl rfl)
theorem dX6_liesAt_40 : decode cX6_liesAt 40 = .ok (.ireturn, 1) := dk_172 (dk_at dksX6_liesAt_1 18 rfl rfl)
abbrev cX6_goesOver : ByteArray := prog_20_method_63_code
def yX6_goesOver : MethodName := ⟨RX6, "goesOver", "(II)V"⟩
def dkwX6_goesOver_4 : List UInt8 := [180, 0, 7, 3, 29, 96, 4, 79, 177]
abbrev dktX6_goesOver_4 : List UInt8 := dkwX6_goesOver_4 ++ []
def dkwX6_goesOver_3 : List UInt8 := [182, 1, 41, 42, 180, 0, 7, 16, 96, 29, 96, 42, 16, 98, 4, 16, 9, 182, 1, 45, 79, 42]
abbrev dktX6_goesOver_3 : List UInt8 := dkwX6_goesOver_3 ++ dktX6_goesOver_4
def dkwX6_goesOver_2 : List UInt8 := [16, 10, 182, 1, 45, 54, 4, 42, 182, 1, 48, 21, 4, 161, 0, 4, 177, 42, 29, 3, 3, 3]
abbrev dktX6_goesOver_2 : List UInt8 := dkwX6_goesOver_2 ++ dktX6_goesOver_3
def dkwX6_goesOver_1 : List UInt8 := [153, 0, 4, 177, 42, 29, 42, 180, 0, 7, 16, 96, 27, 96, 46, 28, 3, 182, 1, 41, 42, 16, 115, 3]
abbrev dktX6_goesOver_1 : List UInt8 := dkwX6_goesOver_1 ++ dktX6_goesOver_2
def dkwX6_goesOver_0 : List UInt8 := [27, 28, 184, 1, 25, 62, 42, 29, 182, 0, 241, 153, 0, 14, 42, 180, 0, 7, 3, 29, 96, 46]
abbrev dktX6_goesOver_0 : List UInt8 := dkwX6_goesOver_0 ++ dktX6_goesOver_1
theorem dksX6_goesOver_0 : cX6_goesOver.data.toList.drop 0 = dktX6_goesOver_0 := by decide +kernel
theorem dksX6_goesOver_1 : cX6_goesOver.data.toList.drop 22 = dktX6_goesOver_1 := dk_seg dksX6_goesOver_0 22 rfl rfl
theorem dksX6_goesOver_2 : cX6_goesOver.data.toList.drop 46 = dktX6_goesOver_2 := dk_seg dksX6_goesOver_1 24 rfl rfl
theorem dksX6_goesOver_3 : cX6_goesOver.data.toList.drop 68 = dktX6_goesOver_3 := dk_seg dksX6_goesOver_2 22 rfl rfl
theorem dksX6_goesOver_4 : cX6_goesOver.data.toList.drop 90 = dktX6_goesOver_4 := dk_seg dksX6_goesOver_3 22 rfl rfl
theorem dX6_goesOver_0 : decode cX6_goesOver 0 = .ok (.iload_n 1, 1) := dk_27 (dk_at dksX6_goesOver_0 0 rfl rfl)
theorem dX6_goesOver_1 : decode cX6_goesOver 1 = .ok (.iload_n 2, 1) := dk_28 (dk_at dksX6_goesOver_0 1 rfl rfl)
theorem dX6_goesOver_2 : decode cX6_goesOver 2 = .ok (.invokestatic 281, 3) := dk_184 1 25 (dk_at dksX6_goesOver_0 2 rfl rfl)
theorem dX6_goesOver_5 : decode cX6_goesOver 5 = .ok (.istore_n 3, 1) := dk_62 (dk_at dksX6_goesOver_0 5 rfl rfl)
theorem dX6_goesOver_6 : decode cX6_goesOver 6 = .ok (.aload_n 0, 1) := dk_42 (dk_at dksX6_goesOver_0 6 rfl rfl)
theorem dX6_goesOver_7 : decode cX6_goesOver 7 = .ok (.iload_n 3, 1) := dk_29 (dk_at dksX6_goesOver_0 7 rfl rfl)
theorem dX6_goesOver_8 : decode cX6_goesOver 8 = .ok (.invokevirtual 241, 3) := dk_182 0 241 (dk_at dksX6_goesOver_0 8 rfl rfl)
theorem dX6_goesOver_11 : decode cX6_goesOver 11 = .ok (.ifCond .eq 14, 3) := dk_153 0 14 (dk_at dksX6_goesOver_0 11 rfl rfl)
theorem dX6_goesOver_14 : decode cX6_goesOver 14 = .ok (.aload_n 0, 1) := dk_42 (dk_at dksX6_goesOver_0 14 rfl rfl)
theorem dX6_goesOver_15 : decode cX6_goesOver 15 = .ok (.getfield 7, 3) := dk_180 0 7 (dk_at dksX6_goesOver_0 15 rfl rfl)
theorem dX6_goesOver_18 : decode cX6_goesOver 18 = .ok (.iconst 0, 1) := dk_3 (dk_at dksX6_goesOver_0 18 rfl rfl)
theorem dX6_goesOver_19 : decode cX6_goesOver 19 = .ok (.iload_n 3, 1) := dk_29 (dk_at dksX6_goesOver_0 19 rfl rfl)
theorem dX6_goesOver_20 : decode cX6_goesOver 20 = .ok (.iadd, 1) := dk_96 (dk_at dksX6_goesOver_0 20 rfl rfl)
theorem dX6_goesOver_21 : decode cX6_goesOver 21 = .ok (.iaload, 1) := dk_46 (dk_at dksX6_goesOver_0 21 rfl rfl)
theorem dX6_goesOver_22 : decode cX6_goesOver 22 = .ok (.ifCond .eq 4, 3) := dk_153 0 4 (dk_at dksX6_goesOver_1 0 rfl rfl)
theorem dX6_goesOver_25 : decode cX6_goesOver 25 = .ok (.return_, 1) := dk_177 (dk_at dksX6_goesOver_1 3 rfl rfl)
theorem dX6_goesOver_26 : decode cX6_goesOver 26 = .ok (.aload_n 0, 1) := dk_42 (dk_at dksX6_goesOver_1 4 rfl rfl)
theorem dX6_goesOver_27 : decode cX6_goesOver 27 = .ok (.iload_n 3, 1) := dk_29 (dk_at dksX6_goesOver_1 5 rfl rfl)
theorem dX6_goesOver_28 : decode cX6_goesOver 28 = .ok (.aload_n 0, 1) := dk_42 (dk_at dksX6_goesOver_1 6 rfl rfl)
theorem dX6_goesOver_29 : decode cX6_goesOver 29 = .ok (.getfield 7, 3) := dk_180 0 7 (dk_at dksX6_goesOver_1 7 rfl rfl)
theorem dX6_goesOver_32 : decode cX6_goesOver 32 = .ok (.bipush 96, 2) := dk_16 96 (dk_at dksX6_goesOver_1 10 rfl rfl)
theorem dX6_goesOver_34 : decode cX6_goesOver 34 = .ok (.iload_n 1, 1) := dk_27 (dk_at dksX6_goesOver_1 12 rfl rfl)
theorem dX6_goesOver_35 : decode cX6_goesOver 35 = .ok (.iadd, 1) := dk_96 (dk_at dksX6_goesOver_1 13 rfl rfl)
theorem dX6_goesOver_36 : decode cX6_goesOver 36 = .ok (.iaload, 1) := dk_46 (dk_at dksX6_goesOver_1 14 rfl rfl)
theorem dX6_goesOver_37 : decode cX6_goesOver 37 = .ok (.iload_n 2, 1) := dk_28 (dk_at dksX6_goesOver_1 15 rfl rfl)
theorem dX6_goesOver_38 : decode cX6_goesOver 38 = .ok (.iconst 0, 1) := dk_3 (dk_at dksX6_goesOver_1 16 rfl rfl)
theorem dX6_goesOver_39 : decode cX6_goesOver 39 = .ok (.invokevirtual 297, 3) := dk_182 1 41 (dk_at dksX6_goesOver_1 17 rfl rfl)
theorem dX6_goesOver_42 : decode cX6_goesOver 42 = .ok (.aload_n 0, 1) := dk_42 (dk_at dksX6_goesOver_1 20 rfl rfl)
theorem dX6_goesOver_43 : decode cX6_goesOver 43 = .ok (.bipush 115, 2) := dk_16 115 (dk_at dksX6_goesOver_1 21 rfl rfl)
theorem dX6_goesOver_45 : decode cX6_goesOver 45 = .ok (.iconst 0, 1) := dk_3 (dk_at dksX6_goesOver_1 23 rfl rfl)
theorem dX6_goesOver_46 : decode cX6_goesOver 46 = .ok (.bipush 10, 2) := dk_16 10 (dk_at dksX6_goesOver_2 0 rfl rfl)
theorem dX6_goesOver_48 : decode cX6_goesOver 48 = .ok (.invokevirtual 301, 3) := dk_182 1 45 (dk_at dksX6_goesOver_2 2 rfl rfl)
theorem dX6_goesOver_51 : decode cX6_goesOver 51 = .ok (.istore 4, 2) := dk_54 4 (dk_at dksX6_goesOver_2 5 rfl rfl)
theorem dX6_goesOver_53 : decode cX6_goesOver 53 = .ok (.aload_n 0, 1) := dk_42 (dk_at dksX6_goesOver_2 7 rfl rfl)
theorem dX6_goesOver_54 : decode cX6_goesOver 54 = .ok (.invokevirtual 304, 3) := dk_182 1 48 (dk_at dksX6_goesOver_2 8 rfl rfl)
theorem dX6_goesOver_57 : decode cX6_goesOver 57 = .ok (.iload 4, 2) := dk_21 4 (dk_at dksX6_goesOver_2 11 rfl rfl)
theorem dX6_goesOver_59 : decode cX6_goesOver 59 = .ok (.if_icmp .lt 4, 3) := dk_161 0 4 (dk_at dksX6_goesOver_2 13 rfl rfl)
theorem dX6_goesOver_62 : decode cX6_goesOver 62 = .ok (.return_, 1) := dk_177 (dk_at dksX6_goesOver_2 16 rfl rfl)
theorem dX6_goesOver_63 : decode cX6_goesOver 63 = .ok (.aload_n 0, 1) := dk_42 (dk_at dksX6_goesOver_2 17 rfl rfl)
theorem dX6_goesOver_64 : decode cX6_goesOver 64 = .ok (.iload_n 3, 1) := dk_29 (dk_at dksX6_goesOver_2 18 rfl rfl)
theorem dX6_goesOver_65 : decode cX6_goesOver 65 = .ok (.iconst 0, 1) := dk_3 (dk_at dksX6_goesOver_2 19 rfl rfl)
theorem dX6_goesOver_66 : decode cX6_goesOver 66 = .ok (.iconst 0, 1) := dk_3 (dk_at dksX6_goesOver_2 20 rfl rfl)
theorem dX6_goesOver_67 : decode cX6_goesOver 67 = .ok (.iconst 0, 1) := dk_3 (dk_at dksX6_goesOver_2 21 rfl rfl)
theorem dX6_goesOver_68 : decode cX6_goesOver 68 = .ok (.invokevirtual 297, 3) := dk_182 1 41 (dk_at dksX6_goesOver_3 0 rfl rfl)
theorem dX6_goesOver_71 : decode cX6_goesOver 71 = .ok (.aload_n 0, 1) := dk_42 (dk_at dksX6_goesOver_3 3 rfl rfl)
theorem dX6_goesOver_72 : decode cX6_goesOver 72 = .ok (.getfield 7, 3) := dk_180 0 7 (dk_at dksX6_goesOver_3 4 rfl rfl)
theorem dX6_goesOver_75 : decode cX6_goesOver 75 = .ok (.bipush 96, 2) := dk_16 96 (dk_at dksX6_goesOver_3 7 rfl rfl)
theorem dX6_goesOver_77 : decode cX6_goesOver 77 = .ok (.iload_n 3, 1) := dk_29 (dk_at dksX6_goesOver_3 9 rfl rfl)
theorem dX6_goesOver_78 : decode cX6_goesOver 78 = .ok (.iadd, 1) := dk_96 (dk_at dksX6_goesOver_3 10 rfl rfl)
theorem dX6_goesOver_79 : decode cX6_goesOver 79 = .ok (.aload_n 0, 1) := dk_42 (dk_at dksX6_goesOver_3 11 rfl rfl)
theorem dX6_goesOver_80 : decode cX6_goesOver 80 = .ok (.bipush 98, 2) := dk_16 98 (dk_at dksX6_goesOver_3 12 rfl rfl)
theorem dX6_goesOver_82 : decode cX6_goesOver 82 = .ok (.iconst 1, 1) := dk_4 (dk_at dksX6_goesOver_3 14 rfl rfl)
theorem dX6_goesOver_83 : decode cX6_goesOver 83 = .ok (.bipush 9, 2) := dk_16 9 (dk_at dksX6_goesOver_3 15 rfl rfl)
theorem dX6_goesOver_85 : decode cX6_goesOver 85 = .ok (.invokevirtual 301, 3) := dk_182 1 45 (dk_at dksX6_goesOver_3 17 rfl rfl)
theorem dX6_goesOver_88 : decode cX6_goesOver 88 = .ok (.iastore, 1) := dk_79 (dk_at dksX6_goesOver_3 20 rfl rfl)
theorem dX6_goesOver_89 : decode cX6_goesOver 89 = .ok (.aload_n 0, 1) := dk_42 (dk_at dksX6_goesOver_3 21 rfl rfl)
theorem dX6_goesOver_90 : decode cX6_goesOver 90 = .ok (.getfield 7, 3) := dk_180 0 7 (dk_at dksX6_goesOver_4 0 rfl rfl)
theorem dX6_goesOver_93 : decode cX6_goesOver 93 = .ok (.iconst 0, 1) := dk_3 (dk_at dksX6_goesOver_4 3 rfl rfl)
theorem dX6_goesOver_94 : decode cX6_goesOver 94 = .ok (.iload_n 3, 1) := dk_29 (dk_at dksX6_goesOver_4 4 rfl rfl)
theorem dX6_goesOver_95 : decode cX6_goesOver 95 = .ok (.iadd, 1) := dk_96 (dk_at dksX6_goesOver_4 5 rfl rfl)
theorem dX6_goesOver_96 : decode cX6_goesOver 96 = .ok (.iconst 1, 1) := dk_4 (dk_at dksX6_goesOver_4 6 rfl rfl)
theorem dX6_goesOver_97 : decode cX6_goesOver 97 = .ok (.iastore, 1) := dk_79 (dk_at dksX6_goesOver_4 7 rfl rfl)
theorem dX6_goesOver_98 : decode cX6_goesOver 98 = .ok (.return_, 1) := dk_177 (dk_at dksX6_goesOver_4 8 rfl rfl)
abbrev cX6_beside : ByteArray := prog_20_method_11_code
def yX6_beside : MethodName := ⟨RX6, "beside", "(II)I"⟩
def dkwX6_beside_2 : List UInt8 := [62, 28, 29, 184, 0, 106, 153, 0, 12, 16, 12, 29, 104, 28, 96, 167, 0, 4, 2, 172]
abbrev dktX6_beside_2 : List UInt8 := dkwX6_beside_2 ++ []
def dkwX6_beside_1 : List UInt8 := [61, 26, 16, 12, 108, 27, 5, 160, 0, 7, 4, 167, 0, 12, 27, 154, 0, 7, 2, 167, 0, 4, 3, 96]
abbrev dktX6_beside_1 : List UInt8 := dkwX6_beside_1 ++ dktX6_beside_2
def dkwX6_beside_0 : List UInt8 := [26, 16, 12, 112, 27, 4, 160, 0, 7, 4, 167, 0, 13, 27, 6, 160, 0, 7, 2, 167, 0, 4, 3, 96]
abbrev dktX6_beside_0 : List UInt8 := dkwX6_beside_0 ++ dktX6_beside_1
theorem dksX6_beside_0 : cX6_beside.data.toList.drop 0 = dktX6_beside_0 := by decide +kernel
theorem dksX6_beside_1 : cX6_beside.data.toList.drop 24 = dktX6_beside_1 := dk_seg dksX6_beside_0 24 rfl rfl
theorem dksX6_beside_2 : cX6_beside.data.toList.drop 48 = dktX6_beside_2 := dk_seg dksX6_beside_1 24 rfl rfl
theorem dX6_beside_0 : decode cX6_beside 0 = .ok (.iload_n 0, 1) := dk_26 (dk_at dksX6_beside_0 0 rfl rfl)
theorem dX6_beside_1 : decode cX6_beside 1 = .ok (.bipush 12, 2) := dk_16 12 (dk_at dksX6_beside_0 1 rfl rfl)
theorem dX6_beside_3 : decode cX6_beside 3 = .ok (.irem, 1) := dk_112 (dk_at dksX6_beside_0 3 rfl rfl)
theorem dX6_beside_4 : decode cX6_beside 4 = .ok (.iload_n 1, 1) := dk_27 (dk_at dksX6_beside_0 4 rfl rfl)
theorem dX6_beside_5 : decode cX6_beside 5 = .ok (.iconst 1, 1) := dk_4 (dk_at dksX6_beside_0 5 rfl rfl)
theorem dX6_beside_6 : decode cX6_beside 6 = .ok (.if_icmp .ne 7, 3) := dk_160 0 7 (dk_at dksX6_beside_0 6 rfl rfl)
theorem dX6_beside_9 : decode cX6_beside 9 = .ok (.iconst 1, 1) := dk_4 (dk_at dksX6_beside_0 9 rfl rfl)
theorem dX6_beside_10 : decode cX6_beside 10 = .ok (.goto 13, 3) := dk_167 0 13 (dk_at dksX6_beside_0 10 rfl rfl)
theorem dX6_beside_13 : decode cX6_beside 13 = .ok (.iload_n 1, 1) := dk_27 (dk_at dksX6_beside_0 13 rfl rfl)
theorem dX6_beside_14 : decode cX6_beside 14 = .ok (.iconst 3, 1) := dk_6 (dk_at dksX6_beside_0 14 rfl rfl)
theorem dX6_beside_15 : decode cX6_beside 15 = .ok (.if_icmp .ne 7, 3) := dk_160 0 7 (dk_at dksX6_beside_0 15 rfl rfl)
theorem dX6_beside_18 : decode cX6_beside 18 = .ok (.iconst (-1), 1) := dk_2 (dk_at dksX6_beside_0 18 rfl rfl)
theorem dX6_beside_19 : decode cX6_beside 19 = .ok (.goto 4, 3) := dk_167 0 4 (dk_at dksX6_beside_0 19 rfl rfl)
theorem dX6_beside_22 : decode cX6_beside 22 = .ok (.iconst 0, 1) := dk_3 (dk_at dksX6_beside_0 22 rfl rfl)
theorem dX6_beside_23 : decode cX6_beside 23 = .ok (.iadd, 1) := dk_96 (dk_at dksX6_beside_0 23 rfl rfl)
theorem dX6_beside_24 : decode cX6_beside 24 = .ok (.istore_n 2, 1) := dk_61 (dk_at dksX6_beside_1 0 rfl rfl)
theorem dX6_beside_25 : decode cX6_beside 25 = .ok (.iload_n 0, 1) := dk_26 (dk_at dksX6_beside_1 1 rfl rfl)
theorem dX6_beside_26 : decode cX6_beside 26 = .ok (.bipush 12, 2) := dk_16 12 (dk_at dksX6_beside_1 2 rfl rfl)
theorem dX6_beside_28 : decode cX6_beside 28 = .ok (.idiv, 1) := dk_108 (dk_at dksX6_beside_1 4 rfl rfl)
theorem dX6_beside_29 : decode cX6_beside 29 = .ok (.iload_n 1, 1) := dk_27 (dk_at dksX6_beside_1 5 rfl rfl)
theorem dX6_beside_30 : decode cX6_beside 30 = .ok (.iconst 2, 1) := dk_5 (dk_at dksX6_beside_1 6 rfl rfl)
theorem dX6_beside_31 : decode cX6_beside 31 = .ok (.if_icmp .ne 7, 3) := dk_160 0 7 (dk_at dksX6_beside_1 7 rfl rfl)
theorem dX6_beside_34 : decode cX6_beside 34 = .ok (.iconst 1, 1) := dk_4 (dk_at dksX6_beside_1 10 rfl rfl)
theorem dX6_beside_35 : decode cX6_beside 35 = .ok (.goto 12, 3) := dk_167 0 12 (dk_at dksX6_beside_1 11 rfl rfl)
theorem dX6_beside_38 : decode cX6_beside 38 = .ok (.iload_n 1, 1) := dk_27 (dk_at dksX6_beside_1 14 rfl rfl)
theorem dX6_beside_39 : decode cX6_beside 39 = .ok (.ifCond .ne 7, 3) := dk_154 0 7 (dk_at dksX6_beside_1 15 rfl rfl)
theorem dX6_beside_42 : decode cX6_beside 42 = .ok (.iconst (-1), 1) := dk_2 (dk_at dksX6_beside_1 18 rfl rfl)
theorem dX6_beside_43 : decode cX6_beside 43 = .ok (.goto 4, 3) := dk_167 0 4 (dk_at dksX6_beside_1 19 rfl rfl)
theorem dX6_beside_46 : decode cX6_beside 46 = .ok (.iconst 0, 1) := dk_3 (dk_at dksX6_beside_1 22 rfl rfl)
theorem dX6_beside_47 : decode cX6_beside 47 = .ok (.iadd, 1) := dk_96 (dk_at dksX6_beside_1 23 rfl rfl)
theorem dX6_beside_48 : decode cX6_beside 48 = .ok (.istore_n 3, 1) := dk_62 (dk_at dksX6_beside_2 0 rfl rfl)
theorem dX6_beside_49 : decode cX6_beside 49 = .ok (.iload_n 2, 1) := dk_28 (dk_at dksX6_beside_2 1 rfl rfl)
theorem dX6_beside_50 : decode cX6_beside 50 = .ok (.iload_n 3, 1) := dk_29 (dk_at dksX6_beside_2 2 rfl rfl)
theorem dX6_beside_51 : decode cX6_beside 51 = .ok (.invokestatic 106, 3) := dk_184 0 106 (dk_at dksX6_beside_2 3 rfl rfl)
theorem dX6_beside_54 : decode cX6_beside 54 = .ok (.ifCond .eq 12, 3) := dk_153 0 12 (dk_at dksX6_beside_2 6 rfl rfl)
theorem dX6_beside_57 : decode cX6_beside 57 = .ok (.bipush 12, 2) := dk_16 12 (dk_at dksX6_beside_2 9 rfl rfl)
theorem dX6_beside_59 : decode cX6_beside 59 = .ok (.iload_n 3, 1) := dk_29 (dk_at dksX6_beside_2 11 rfl rfl)
theorem dX6_beside_60 : decode cX6_beside 60 = .ok (.imul, 1) := dk_104 (dk_at dksX6_beside_2 12 rfl rfl)
theorem dX6_beside_61 : decode cX6_beside 61 = .ok (.iload_n 2, 1) := dk_28 (dk_at dksX6_beside_2 13 rfl rfl)
theorem dX6_beside_62 : decode cX6_beside 62 = .ok (.iadd, 1) := dk_96 (dk_at dksX6_beside_2 14 rfl rfl)
theorem dX6_beside_63 : decode cX6_beside 63 = .ok (.goto 4, 3) := dk_167 0 4 (dk_at dksX6_beside_2 15 rfl rfl)
theorem dX6_beside_66 : decode cX6_beside 66 = .ok (.iconst (-1), 1) := dk_2 (dk_at dksX6_beside_2 18 rfl rfl)
theorem dX6_beside_67 : decode cX6_beside 67 = .ok (.ireturn, 1) := dk_172 (dk_at dksX6_beside_2 19 rfl rfl)
abbrev cX6_isSpot : ByteArray := prog_20_method_10_code
def yX6_isSpot : MethodName := ⟨RX6, "isSpot", "(II)Z"⟩
def dkwX6_isSpot_1 : List UInt8 := [3, 172]
abbrev dktX6_isSpot_1 : List UInt8 := dkwX6_isSpot_1 ++ []
def dkwX6_isSpot_0 : List UInt8 := [26, 3, 16, 11, 184, 0, 102, 153, 0, 17, 27, 3, 16, 7, 184, 0, 102, 153, 0, 7, 4, 167, 0, 4]
abbrev dktX6_isSpot_0 : List UInt8 := dkwX6_isSpot_0 ++ dktX6_isSpot_1
theorem dksX6_isSpot_0 : cX6_isSpot.data.toList.drop 0 = dktX6_isSpot_0 := by decide +kernel
theorem dksX6_isSpot_1 : cX6_isSpot.data.toList.drop 24 = dktX6_isSpot_1 := dk_seg dksX6_isSpot_0 24 rfl rfl
theorem dX6_isSpot_0 : decode cX6_isSpot 0 = .ok (.iload_n 0, 1) := dk_26 (dk_at dksX6_isSpot_0 0 rfl rfl)
theorem dX6_isSpot_1 : decode cX6_isSpot 1 = .ok (.iconst 0, 1) := dk_3 (dk_at dksX6_isSpot_0 1 rfl rfl)
theorem dX6_isSpot_2 : decode cX6_isSpot 2 = .ok (.bipush 11, 2) := dk_16 11 (dk_at dksX6_isSpot_0 2 rfl rfl)
theorem dX6_isSpot_4 : decode cX6_isSpot 4 = .ok (.invokestatic 102, 3) := dk_184 0 102 (dk_at dksX6_isSpot_0 4 rfl rfl)
theorem dX6_isSpot_7 : decode cX6_isSpot 7 = .ok (.ifCond .eq 17, 3) := dk_153 0 17 (dk_at dksX6_isSpot_0 7 rfl rfl)
theorem dX6_isSpot_10 : decode cX6_isSpot 10 = .ok (.iload_n 1, 1) := dk_27 (dk_at dksX6_isSpot_0 10 rfl rfl)
theorem dX6_isSpot_11 : decode cX6_isSpot 11 = .ok (.iconst 0, 1) := dk_3 (dk_at dksX6_isSpot_0 11 rfl rfl)
theorem dX6_isSpot_12 : decode cX6_isSpot 12 = .ok (.bipush 7, 2) := dk_16 7 (dk_at dksX6_isSpot_0 12 rfl rfl)
theorem dX6_isSpot_14 : decode cX6_isSpot 14 = .ok (.invokestatic 102, 3) := dk_184 0 102 (dk_at dksX6_isSpot_0 14 rfl rfl)
theorem dX6_isSpot_17 : decode cX6_isSpot 17 = .ok (.ifCond .eq 7, 3) := dk_153 0 7 (dk_at dksX6_isSpot_0 17 rfl rfl)
theorem dX6_isSpot_20 : decode cX6_isSpot 20 = .ok (.iconst 1, 1) := dk_4 (dk_at dksX6_isSpot_0 20 rfl rfl)
theorem dX6_isSpot_21 : decode cX6_isSpot 21 = .ok (.goto 4, 3) := dk_167 0 4 (dk_at dksX6_isSpot_0 21 rfl rfl)
theorem dX6_isSpot_24 : decode cX6_isSpot 24 = .ok (.iconst 0, 1) := dk_3 (dk_at dksX6_isSpot_1 0 rfl rfl)
theorem dX6_isSpot_25 : decode cX6_isSpot 25 = .ok (.ireturn, 1) := dk_172 (dk_at dksX6_isSpot_1 1 rfl rfl)
abbrev cX6_feels : ByteArray := prog_20_method_60_code
def yX6_feels : MethodName := ⟨RX6, "feels", "(IIII)V"⟩
def dkwX6_feels_4 : List UInt8 := [21, 4, 79, 177]
abbrev dktX6_feels_4 : List UInt8 := dkwX6_feels_4 ++ []
def dkwX6_feels_3 : List UInt8 := [180, 0, 65, 16, 7, 42, 180, 0, 7, 17, 1, 57, 46, 16, 100, 112, 79, 42, 180, 0, 65, 16, 8]
abbrev dktX6_feels_3 : List UInt8 := dkwX6_feels_3 ++ dktX6_feels_4
def dkwX6_feels_2 : List UInt8 := [180, 0, 65, 8, 29, 79, 42, 180, 0, 65, 16, 6, 42, 180, 0, 7, 17, 1, 56, 46, 79, 42]
abbrev dktX6_feels_2 : List UInt8 := dkwX6_feels_2 ++ dktX6_feels_3
def dkwX6_feels_1 : List UInt8 := [79, 42, 180, 0, 65, 6, 42, 27, 182, 1, 31, 79, 42, 180, 0, 65, 7, 42, 27, 182, 1, 34, 79, 42]
abbrev dktX6_feels_1 : List UInt8 := dkwX6_feels_1 ++ dktX6_feels_2
def dkwX6_feels_0 : List UInt8 := [42, 180, 0, 65, 3, 27, 79, 42, 180, 0, 65, 4, 28, 79, 42, 180, 0, 65, 5, 42, 27, 182, 1, 28]
abbrev dktX6_feels_0 : List UInt8 := dkwX6_feels_0 ++ dktX6_feels_1
theorem dksX6_feels_0 : cX6_feels.data.toList.drop 0 = dktX6_feels_0 := by decide +kernel
theorem dksX6_feels_1 : cX6_feels.data.toList.drop 24 = dktX6_feels_1 := dk_seg dksX6_feels_0 24 rfl rfl
theorem dksX6_feels_2 : cX6_feels.data.toList.drop 48 = dktX6_feels_2 := dk_seg dksX6_feels_1 24 rfl rfl
theorem dksX6_feels_3 : cX6_feels.data.toList.drop 70 = dktX6_feels_3 := dk_seg dksX6_feels_2 22 rfl rfl
theorem dksX6_feels_4 : cX6_feels.data.toList.drop 93 = dktX6_feels_4 := dk_seg dksX6_feels_3 23 rfl rfl
theorem dX6_feels_0 : decode cX6_feels 0 = .ok (.aload_n 0, 1) := dk_42 (dk_at dksX6_feels_0 0 rfl rfl)
theorem dX6_feels_1 : decode cX6_feels 1 = .ok (.getfield 65, 3) := dk_180 0 65 (dk_at dksX6_feels_0 1 rfl rfl)
theorem dX6_feels_4 : decode cX6_feels 4 = .ok (.iconst 0, 1) := dk_3 (dk_at dksX6_feels_0 4 rfl rfl)
theorem dX6_feels_5 : decode cX6_feels 5 = .ok (.iload_n 1, 1) := dk_27 (dk_at dksX6_feels_0 5 rfl rfl)
theorem dX6_feels_6 : decode cX6_feels 6 = .ok (.iastore, 1) := dk_79 (dk_at dksX6_feels_0 6 rfl rfl)
theorem dX6_feels_7 : decode cX6_feels 7 = .ok (.aload_n 0, 1) := dk_42 (dk_at dksX6_feels_0 7 rfl rfl)
theorem dX6_feels_8 : decode cX6_feels 8 = .ok (.getfield 65, 3) := dk_180 0 65 (dk_at dksX6_feels_0 8 rfl rfl)
theorem dX6_feels_11 : decode cX6_feels 11 = .ok (.iconst 1, 1) := dk_4 (dk_at dksX6_feels_0 11 rfl rfl)
theorem dX6_feels_12 : decode cX6_feels 12 = .ok (.iload_n 2, 1) := dk_28 (dk_at dksX6_feels_0 12 rfl rfl)
theorem dX6_feels_13 : decode cX6_feels 13 = .ok (.iastore, 1) := dk_79 (dk_at dksX6_feels_0 13 rfl rfl)
theorem dX6_feels_14 : decode cX6_feels 14 = .ok (.aload_n 0, 1) := dk_42 (dk_at dksX6_feels_0 14 rfl rfl)
theorem dX6_feels_15 : decode cX6_feels 15 = .ok (.getfield 65, 3) := dk_180 0 65 (dk_at dksX6_feels_0 15 rfl rfl)
theorem dX6_feels_18 : decode cX6_feels 18 = .ok (.iconst 2, 1) := dk_5 (dk_at dksX6_feels_0 18 rfl rfl)
theorem dX6_feels_19 : decode cX6_feels 19 = .ok (.aload_n 0, 1) := dk_42 (dk_at dksX6_feels_0 19 rfl rfl)
theorem dX6_feels_20 : decode cX6_feels 20 = .ok (.iload_n 1, 1) := dk_27 (dk_at dksX6_feels_0 20 rfl rfl)
theorem dX6_feels_21 : decode cX6_feels 21 = .ok (.invokevirtual 284, 3) := dk_182 1 28 (dk_at dksX6_feels_0 21 rfl rfl)
theorem dX6_feels_24 : decode cX6_feels 24 = .ok (.iastore, 1) := dk_79 (dk_at dksX6_feels_1 0 rfl rfl)
theorem dX6_feels_25 : decode cX6_feels 25 = .ok (.aload_n 0, 1) := dk_42 (dk_at dksX6_feels_1 1 rfl rfl)
theorem dX6_feels_26 : decode cX6_feels 26 = .ok (.getfield 65, 3) := dk_180 0 65 (dk_at dksX6_feels_1 2 rfl rfl)
theorem dX6_feels_29 : decode cX6_feels 29 = .ok (.iconst 3, 1) := dk_6 (dk_at dksX6_feels_1 5 rfl rfl)
theorem dX6_feels_30 : decode cX6_feels 30 = .ok (.aload_n 0, 1) := dk_42 (dk_at dksX6_feels_1 6 rfl rfl)
theorem dX6_feels_31 : decode cX6_feels 31 = .ok (.iload_n 1, 1) := dk_27 (dk_at dksX6_feels_1 7 rfl rfl)
theorem dX6_feels_32 : decode cX6_feels 32 = .ok (.invokevirtual 287, 3) := dk_182 1 31 (dk_at dksX6_feels_1 8 rfl rfl)
theorem dX6_feels_35 : decode cX6_feels 35 = .ok (.iastore, 1) := dk_79 (dk_at dksX6_feels_1 11 rfl rfl)
theorem dX6_feels_36 : decode cX6_feels 36 = .ok (.aload_n 0, 1) := dk_42 (dk_at dksX6_feels_1 12 rfl rfl)
theorem dX6_feels_37 : decode cX6_feels 37 = .ok (.getfield 65, 3) := dk_180 0 65 (dk_at dksX6_feels_1 13 rfl rfl)
theorem dX6_feels_40 : decode cX6_feels 40 = .ok (.iconst 4, 1) := dk_7 (dk_at dksX6_feels_1 16 rfl rfl)
theorem dX6_feels_41 : decode cX6_feels 41 = .ok (.aload_n 0, 1) := dk_42 (dk_at dksX6_feels_1 17 rfl rfl)
theorem dX6_feels_42 : decode cX6_feels 42 = .ok (.iload_n 1, 1) := dk_27 (dk_at dksX6_feels_1 18 rfl rfl)
theorem dX6_feels_43 : decode cX6_feels 43 = .ok (.invokevirtual 290, 3) := dk_182 1 34 (dk_at dksX6_feels_1 19 rfl rfl)
theorem dX6_feels_46 : decode cX6_feels 46 = .ok (.iastore, 1) := dk_79 (dk_at dksX6_feels_1 22 rfl rfl)
theorem dX6_feels_47 : decode cX6_feels 47 = .ok (.aload_n 0, 1) := dk_42 (dk_at dksX6_feels_1 23 rfl rfl)
theorem dX6_feels_48 : decode cX6_feels 48 = .ok (.getfield 65, 3) := dk_180 0 65 (dk_at dksX6_feels_2 0 rfl rfl)
theorem dX6_feels_51 : decode cX6_feels 51 = .ok (.iconst 5, 1) := dk_8 (dk_at dksX6_feels_2 3 rfl rfl)
theorem dX6_feels_52 : decode cX6_feels 52 = .ok (.iload_n 3, 1) := dk_29 (dk_at dksX6_feels_2 4 rfl rfl)
theorem dX6_feels_53 : decode cX6_feels 53 = .ok (.iastore, 1) := dk_79 (dk_at dksX6_feels_2 5 rfl rfl)
theorem dX6_feels_54 : decode cX6_feels 54 = .ok (.aload_n 0, 1) := dk_42 (dk_at dksX6_feels_2 6 rfl rfl)
theorem dX6_feels_55 : decode cX6_feels 55 = .ok (.getfield 65, 3) := dk_180 0 65 (dk_at dksX6_feels_2 7 rfl rfl)
theorem dX6_feels_58 : decode cX6_feels 58 = .ok (.bipush 6, 2) := dk_16 6 (dk_at dksX6_feels_2 10 rfl rfl)
theorem dX6_feels_60 : decode cX6_feels 60 = .ok (.aload_n 0, 1) := dk_42 (dk_at dksX6_feels_2 12 rfl rfl)
theorem dX6_feels_61 : decode cX6_feels 61 = .ok (.getfield 7, 3) := dk_180 0 7 (dk_at dksX6_feels_2 13 rfl rfl)
theorem dX6_feels_64 : decode cX6_feels 64 = .ok (.sipush 312, 3) := dk_17 1 56 (dk_at dksX6_feels_2 16 rfl rfl)
theorem dX6_feels_67 : decode cX6_feels 67 = .ok (.iaload, 1) := dk_46 (dk_at dksX6_feels_2 19 rfl rfl)
theorem dX6_feels_68 : decode cX6_feels 68 = .ok (.iastore, 1) := dk_79 (dk_at dksX6_feels_2 20 rfl rfl)
theorem dX6_feels_69 : decode cX6_feels 69 = .ok (.aload_n 0, 1) := dk_42 (dk_at dksX6_feels_2 21 rfl rfl)
theorem dX6_feels_70 : decode cX6_feels 70 = .ok (.getfield 65, 3) := dk_180 0 65 (dk_at dksX6_feels_3 0 rfl rfl)
theorem dX6_feels_73 : decode cX6_feels 73 = .ok (.bipush 7, 2) := dk_16 7 (dk_at dksX6_feels_3 3 rfl rfl)
theorem dX6_feels_75 : decode cX6_feels 75 = .ok (.aload_n 0, 1) := dk_42 (dk_at dksX6_feels_3 5 rfl rfl)
theorem dX6_feels_76 : decode cX6_feels 76 = .ok (.getfield 7, 3) := dk_180 0 7 (dk_at dksX6_feels_3 6 rfl rfl)
theorem dX6_feels_79 : decode cX6_feels 79 = .ok (.sipush 313, 3) := dk_17 1 57 (dk_at dksX6_feels_3 9 rfl rfl)
theorem dX6_feels_82 : decode cX6_feels 82 = .ok (.iaload, 1) := dk_46 (dk_at dksX6_feels_3 12 rfl rfl)
theorem dX6_feels_83 : decode cX6_feels 83 = .ok (.bipush 100, 2) := dk_16 100 (dk_at dksX6_feels_3 13 rfl rfl)
theorem dX6_feels_85 : decode cX6_feels 85 = .ok (.irem, 1) := dk_112 (dk_at dksX6_feels_3 15 rfl rfl)
theorem dX6_feels_86 : decode cX6_feels 86 = .ok (.iastore, 1) := dk_79 (dk_at dksX6_feels_3 16 rfl rfl)
theorem dX6_feels_87 : decode cX6_feels 87 = .ok (.aload_n 0, 1) := dk_42 (dk_at dksX6_feels_3 17 rfl rfl)
theorem dX6_feels_88 : decode cX6_feels 88 = .ok (.getfield 65, 3) := dk_180 0 65 (dk_at dksX6_feels_3 18 rfl rfl)
theorem dX6_feels_91 : decode cX6_feels 91 = .ok (.bipush 8, 2) := dk_16 8 (dk_at dksX6_feels_3 21 rfl rfl)
theorem dX6_feels_93 : decode cX6_feels 93 = .ok (.iload 4, 2) := dk_21 4 (dk_at dksX6_feels_4 0 rfl rfl)
theorem dX6_feels_95 : decode cX6_feels 95 = .ok (.iastore, 1) := dk_79 (dk_at dksX6_feels_4 2 rfl rfl)
theorem dX6_feels_96 : decode cX6_feels 96 = .ok (.return_, 1) := dk_177 (dk_at dksX6_feels_4 3 rfl rfl)
abbrev cX6_burnNextTo : ByteArray := prog_20_method_59_code
def yX6_burnNextTo : MethodName := ⟨RX6, "burnNextTo", "(I)I"⟩
def dkwX6_burnNextTo_1 : List UInt8 := [29, 184, 1, 25, 96, 46, 4, 160, 0, 7, 28, 4, 96, 61, 132, 3, 1, 167, 255, 219, 28, 172]
abbrev dktX6_burnNextTo_1 : List UInt8 := dkwX6_burnNextTo_1 ++ []
def dkwX6_burnNextTo_0 : List UInt8 := [3, 61, 3, 62, 29, 7, 162, 0, 38, 27, 29, 184, 1, 25, 2, 159, 0, 23, 42, 180, 0, 7, 3, 27]
abbrev dktX6_burnNextTo_0 : List UInt8 := dkwX6_burnNextTo_0 ++ dktX6_burnNextTo_1
theorem dksX6_burnNextTo_0 : cX6_burnNextTo.data.toList.drop 0 = dktX6_burnNextTo_0 := by decide +kernel
theorem dksX6_burnNextTo_1 : cX6_burnNextTo.data.toList.drop 24 = dktX6_burnNextTo_1 := dk_seg dksX6_burnNextTo_0 24 rfl rfl
theorem dX6_burnNextTo_0 : decode cX6_burnNextTo 0 = .ok (.iconst 0, 1) := dk_3 (dk_at dksX6_burnNextTo_0 0 rfl rfl)
theorem dX6_burnNextTo_1 : decode cX6_burnNextTo 1 = .ok (.istore_n 2, 1) := dk_61 (dk_at dksX6_burnNextTo_0 1 rfl rfl)
theorem dX6_burnNextTo_2 : decode cX6_burnNextTo 2 = .ok (.iconst 0, 1) := dk_3 (dk_at dksX6_burnNextTo_0 2 rfl rfl)
theorem dX6_burnNextTo_3 : decode cX6_burnNextTo 3 = .ok (.istore_n 3, 1) := dk_62 (dk_at dksX6_burnNextTo_0 3 rfl rfl)
theorem dX6_burnNextTo_4 : decode cX6_burnNextTo 4 = .ok (.iload_n 3, 1) := dk_29 (dk_at dksX6_burnNextTo_0 4 rfl rfl)
theorem dX6_burnNextTo_5 : decode cX6_burnNextTo 5 = .ok (.iconst 4, 1) := dk_7 (dk_at dksX6_burnNextTo_0 5 rfl rfl)
theorem dX6_burnNextTo_6 : decode cX6_burnNextTo 6 = .ok (.if_icmp .ge 38, 3) := dk_162 0 38 (dk_at dksX6_burnNextTo_0 6 rfl rfl)
theorem dX6_burnNextTo_9 : decode cX6_burnNextTo 9 = .ok (.iload_n 1, 1) := dk_27 (dk_at dksX6_burnNextTo_0 9 rfl rfl)
theorem dX6_burnNextTo_10 : decode cX6_burnNextTo 10 = .ok (.iload_n 3, 1) := dk_29 (dk_at dksX6_burnNextTo_0 10 rfl rfl)
theorem dX6_burnNextTo_11 : decode cX6_burnNextTo 11 = .ok (.invokestatic 281, 3) := dk_184 1 25 (dk_at dksX6_burnNextTo_0 11 rfl rfl)
theorem dX6_burnNextTo_14 : decode cX6_burnNextTo 14 = .ok (.iconst (-1), 1) := dk_2 (dk_at dksX6_burnNextTo_0 14 rfl rfl)
theorem dX6_burnNextTo_15 : decode cX6_burnNextTo 15 = .ok (.if_icmp .eq 23, 3) := dk_159 0 23 (dk_at dksX6_burnNextTo_0 15 rfl rfl)
theorem dX6_burnNextTo_18 : decode cX6_burnNextTo 18 = .ok (.aload_n 0, 1) := dk_42 (dk_at dksX6_burnNextTo_0 18 rfl rfl)
theorem dX6_burnNextTo_19 : decode cX6_burnNextTo 19 = .ok (.getfield 7, 3) := dk_180 0 7 (dk_at dksX6_burnNextTo_0 19 rfl rfl)
theorem dX6_burnNextTo_22 : decode cX6_burnNextTo 22 = .ok (.iconst 0, 1) := dk_3 (dk_at dksX6_burnNextTo_0 22 rfl rfl)
theorem dX6_burnNextTo_23 : decode cX6_burnNextTo 23 = .ok (.iload_n 1, 1) := dk_27 (dk_at dksX6_burnNextTo_0 23 rfl rfl)
theorem dX6_burnNextTo_24 : decode cX6_burnNextTo 24 = .ok (.iload_n 3, 1) := dk_29 (dk_at dksX6_burnNextTo_1 0 rfl rfl)
theorem dX6_burnNextTo_25 : decode cX6_burnNextTo 25 = .ok (.invokestatic 281, 3) := dk_184 1 25 (dk_at dksX6_burnNextTo_1 1 rfl rfl)
theorem dX6_burnNextTo_28 : decode cX6_burnNextTo 28 = .ok (.iadd, 1) := dk_96 (dk_at dksX6_burnNextTo_1 4 rfl rfl)
theorem dX6_burnNextTo_29 : decode cX6_burnNextTo 29 = .ok (.iaload, 1) := dk_46 (dk_at dksX6_burnNextTo_1 5 rfl rfl)
theorem dX6_burnNextTo_30 : decode cX6_burnNextTo 30 = .ok (.iconst 1, 1) := dk_4 (dk_at dksX6_burnNextTo_1 6 rfl rfl)
theorem dX6_burnNextTo_31 : decode cX6_burnNextTo 31 = .ok (.if_icmp .ne 7, 3) := dk_160 0 7 (dk_at dksX6_burnNextTo_1 7 rfl rfl)
theorem dX6_burnNextTo_34 : decode cX6_burnNextTo 34 = .ok (.iload_n 2, 1) := dk_28 (dk_at dksX6_burnNextTo_1 10 rfl rfl)
theorem dX6_burnNextTo_35 : decode cX6_burnNextTo 35 = .ok (.iconst 1, 1) := dk_4 (dk_at dksX6_burnNextTo_1 11 rfl rfl)
theorem dX6_burnNextTo_36 : decode cX6_burnNextTo 36 = .ok (.iadd, 1) := dk_96 (dk_at dksX6_burnNextTo_1 12 rfl rfl)
theorem dX6_burnNextTo_37 : decode cX6_burnNextTo 37 = .ok (.istore_n 2, 1) := dk_61 (dk_at dksX6_burnNextTo_1 13 rfl rfl)
theorem dX6_burnNextTo_38 : decode cX6_burnNextTo 38 = .ok (.iinc 3 1, 3) := dk_132 3 1 (dk_at dksX6_burnNextTo_1 14 rfl rfl)
theorem dX6_burnNextTo_41 : decode cX6_burnNextTo 41 = .ok (.goto (-37), 3) := dk_167 255 219 (dk_at dksX6_burnNextTo_1 17 rfl rfl)
theorem dX6_burnNextTo_44 : decode cX6_burnNextTo 44 = .ok (.iload_n 2, 1) := dk_28 (dk_at dksX6_burnNextTo_1 20 rfl rfl)
theorem dX6_burnNextTo_45 : decode cX6_burnNextTo 45 = .ok (.ireturn, 1) := dk_172 (dk_at dksX6_burnNextTo_1 21 rfl rfl)
abbrev cX6_valuesAt : ByteArray := prog_20_method_57_code
def yX6_valuesAt : MethodName := ⟨RX6, "valuesAt", "(I)I"⟩
def dkwX6_valuesAt_2 : List UInt8 := [132, 3, 1, 167, 255, 212, 28, 172]
abbrev dktX6_valuesAt_2 : List UInt8 := dkwX6_valuesAt_2 ++ []
def dkwX6_valuesAt_1 : List UInt8 := [17, 1, 8, 29, 96, 46, 154, 0, 16, 28, 42, 180, 0, 7, 17, 0, 240, 29, 96, 46, 96, 61]
abbrev dktX6_valuesAt_1 : List UInt8 := dkwX6_valuesAt_1 ++ dktX6_valuesAt_2
def dkwX6_valuesAt_0 : List UInt8 := [3, 61, 3, 62, 29, 16, 24, 162, 0, 44, 42, 29, 27, 182, 1, 22, 153, 0, 29, 42, 180, 0, 7]
abbrev dktX6_valuesAt_0 : List UInt8 := dkwX6_valuesAt_0 ++ dktX6_valuesAt_1
theorem dksX6_valuesAt_0 : cX6_valuesAt.data.toList.drop 0 = dktX6_valuesAt_0 := by decide +kernel
theorem dksX6_valuesAt_1 : cX6_valuesAt.data.toList.drop 23 = dktX6_valuesAt_1 := dk_seg dksX6_valuesAt_0 23 rfl rfl
theorem dksX6_valuesAt_2 : cX6_valuesAt.data.toList.drop 45 = dktX6_valuesAt_2 := dk_seg dksX6_valuesAt_1 22 rfl rfl
theorem dX6_valuesAt_0 : decode cX6_valuesAt 0 = .ok (.iconst 0, 1) := dk_3 (dk_at dksX6_valuesAt_0 0 rfl rfl)
theorem dX6_valuesAt_1 : decode cX6_valuesAt 1 = .ok (.istore_n 2, 1) := dk_61 (dk_at dksX6_valuesAt_0 1 rfl rfl)
theorem dX6_valuesAt_2 : decode cX6_valuesAt 2 = .ok (.iconst 0, 1) := dk_3 (dk_at dksX6_valuesAt_0 2 rfl rfl)
theorem dX6_valuesAt_3 : decode cX6_valuesAt 3 = .ok (.istore_n 3, 1) := dk_62 (dk_at dksX6_valuesAt_0 3 rfl rfl)
theorem dX6_valuesAt_4 : decode cX6_valuesAt 4 = .ok (.iload_n 3, 1) := dk_29 (dk_at dksX6_valuesAt_0 4 rfl rfl)
theorem dX6_valuesAt_5 : decode cX6_valuesAt 5 = .ok (.bipush 24, 2) := dk_16 24 (dk_at dksX6_valuesAt_0 5 rfl rfl)
theorem dX6_valuesAt_7 : decode cX6_valuesAt 7 = .ok (.if_icmp .ge 44, 3) := dk_162 0 44 (dk_at dksX6_valuesAt_0 7 rfl rfl)
theorem dX6_valuesAt_10 : decode cX6_valuesAt 10 = .ok (.aload_n 0, 1) := dk_42 (dk_at dksX6_valuesAt_0 10 rfl rfl)
theorem dX6_valuesAt_11 : decode cX6_valuesAt 11 = .ok (.iload_n 3, 1) := dk_29 (dk_at dksX6_valuesAt_0 11 rfl rfl)
theorem dX6_valuesAt_12 : decode cX6_valuesAt 12 = .ok (.iload_n 1, 1) := dk_27 (dk_at dksX6_valuesAt_0 12 rfl rfl)
theorem dX6_valuesAt_13 : decode cX6_valuesAt 13 = .ok (.invokevirtual 278, 3) := dk_182 1 22 (dk_at dksX6_valuesAt_0 13 rfl rfl)
theorem dX6_valuesAt_16 : decode cX6_valuesAt 16 = .ok (.ifCond .eq 29, 3) := dk_153 0 29 (dk_at dksX6_valuesAt_0 16 rfl rfl)
theorem dX6_valuesAt_19 : decode cX6_valuesAt 19 = .ok (.aload_n 0, 1) := dk_42 (dk_at dksX6_valuesAt_0 19 rfl rfl)
theorem dX6_valuesAt_20 : decode cX6_valuesAt 20 = .ok (.getfield 7, 3) := dk_180 0 7 (dk_at dksX6_valuesAt_0 20 rfl rfl)
theorem dX6_valuesAt_23 : decode cX6_valuesAt 23 = .ok (.sipush 264, 3) := dk_17 1 8 (dk_at dksX6_valuesAt_1 0 rfl rfl)
theorem dX6_valuesAt_26 : decode cX6_valuesAt 26 = .ok (.iload_n 3, 1) := dk_29 (dk_at dksX6_valuesAt_1 3 rfl rfl)
theorem dX6_valuesAt_27 : decode cX6_valuesAt 27 = .ok (.iadd, 1) := dk_96 (dk_at dksX6_valuesAt_1 4 rfl rfl)
theorem dX6_valuesAt_28 : decode cX6_valuesAt 28 = .ok (.iaload, 1) := dk_46 (dk_at dksX6_valuesAt_1 5 rfl rfl)
theorem dX6_valuesAt_29 : decode cX6_valuesAt 29 = .ok (.ifCond .ne 16, 3) := dk_154 0 16 (dk_at dksX6_valuesAt_1 6 rfl rfl)
theorem dX6_valuesAt_32 : decode cX6_valuesAt 32 = .ok (.iload_n 2, 1) := dk_28 (dk_at dksX6_valuesAt_1 9 rfl rfl)
theorem dX6_valuesAt_33 : decode cX6_valuesAt 33 = .ok (.aload_n 0, 1) := dk_42 (dk_at dksX6_valuesAt_1 10 rfl rfl)
theorem dX6_valuesAt_34 : decode cX6_valuesAt 34 = .ok (.getfield 7, 3) := dk_180 0 7 (dk_at dksX6_valuesAt_1 11 rfl rfl)
theorem dX6_valuesAt_37 : decode cX6_valuesAt 37 = .ok (.sipush 240, 3) := dk_17 0 240 (dk_at dksX6_valuesAt_1 14 rfl rfl)
theorem dX6_valuesAt_40 : decode cX6_valuesAt 40 = .ok (.iload_n 3, 1) := dk_29 (dk_at dksX6_valuesAt_1 17 rfl rfl)
theorem dX6_valuesAt_41 : decode cX6_valuesAt 41 = .ok (.iadd, 1) := dk_96 (dk_at dksX6_valuesAt_1 18 rfl rfl)
theorem dX6_valuesAt_42 : decode cX6_valuesAt 42 = .ok (.iaload, 1) := dk_46 (dk_at dksX6_valuesAt_1 19 rfl rfl)
theorem dX6_valuesAt_43 : decode cX6_valuesAt 43 = .ok (.iadd, 1) := dk_96 (dk_at dksX6_valuesAt_1 20 rfl rfl)
theorem dX6_valuesAt_44 : decode cX6_valuesAt 44 = .ok (.istore_n 2, 1) := dk_61 (dk_at dksX6_valuesAt_1 21 rfl rfl)
theorem dX6_valuesAt_45 : decode cX6_valuesAt 45 = .ok (.iinc 3 1, 3) := dk_132 3 1 (dk_at dksX6_valuesAt_2 0 rfl rfl)
theorem dX6_valuesAt_48 : decode cX6_valuesAt 48 = .ok (.goto (-44), 3) := dk_167 255 212 (dk_at dksX6_valuesAt_2 3 rfl rfl)
theorem dX6_valuesAt_51 : decode cX6_valuesAt 51 = .ok (.iload_n 2, 1) := dk_28 (dk_at dksX6_valuesAt_2 6 rfl rfl)
theorem dX6_valuesAt_52 : decode cX6_valuesAt 52 = .ok (.ireturn, 1) := dk_172 (dk_at dksX6_valuesAt_2 7 rfl rfl)
abbrev cX6_sumsAt : ByteArray := prog_20_method_58_code
def yX6_sumsAt : MethodName := ⟨RX6, "sumsAt", "(I)I"⟩
def dkwX6_sumsAt_1 : List UInt8 := [17, 1, 8, 29, 96, 46, 96, 61, 132, 3, 1, 167, 255, 225, 28, 172]
abbrev dktX6_sumsAt_1 : List UInt8 := dkwX6_sumsAt_1 ++ []
def dkwX6_sumsAt_0 : List UInt8 := [3, 61, 3, 62, 29, 16, 24, 162, 0, 31, 42, 29, 27, 182, 1, 22, 153, 0, 16, 28, 42, 180, 0, 7]
abbrev dktX6_sumsAt_0 : List UInt8 := dkwX6_sumsAt_0 ++ dktX6_sumsAt_1
theorem dksX6_sumsAt_0 : cX6_sumsAt.data.toList.drop 0 = dktX6_sumsAt_0 := by decide +kernel
theorem dksX6_sumsAt_1 : cX6_sumsAt.data.toList.drop 24 = dktX6_sumsAt_1 := dk_seg dksX6_sumsAt_0 24 rfl rfl
theorem dX6_sumsAt_0 : decode cX6_sumsAt 0 = .ok (.iconst 0, 1) := dk_3 (dk_at dksX6_sumsAt_0 0 rfl rfl)
theorem dX6_sumsAt_1 : decode cX6_sumsAt 1 = .ok (.istore_n 2, 1) := dk_61 (dk_at dksX6_sumsAt_0 1 rfl rfl)
theorem dX6_sumsAt_2 : decode cX6_sumsAt 2 = .ok (.iconst 0, 1) := dk_3 (dk_at dksX6_sumsAt_0 2 rfl rfl)
theorem dX6_sumsAt_3 : decode cX6_sumsAt 3 = .ok (.istore_n 3, 1) := dk_62 (dk_at dksX6_sumsAt_0 3 rfl rfl)
theorem dX6_sumsAt_4 : decode cX6_sumsAt 4 = .ok (.iload_n 3, 1) := dk_29 (dk_at dksX6_sumsAt_0 4 rfl rfl)
theorem dX6_sumsAt_5 : decode cX6_sumsAt 5 = .ok (.bipush 24, 2) := dk_16 24 (dk_at dksX6_sumsAt_0 5 rfl rfl)
theorem dX6_sumsAt_7 : decode cX6_sumsAt 7 = .ok (.if_icmp .ge 31, 3) := dk_162 0 31 (dk_at dksX6_sumsAt_0 7 rfl rfl)
theorem dX6_sumsAt_10 : decode cX6_sumsAt 10 = .ok (.aload_n 0, 1) := dk_42 (dk_at dksX6_sumsAt_0 10 rfl rfl)
theorem dX6_sumsAt_11 : decode cX6_sumsAt 11 = .ok (.iload_n 3, 1) := dk_29 (dk_at dksX6_sumsAt_0 11 rfl rfl)
theorem dX6_sumsAt_12 : decode cX6_sumsAt 12 = .ok (.iload_n 1, 1) := dk_27 (dk_at dksX6_sumsAt_0 12 rfl rfl)
theorem dX6_sumsAt_13 : decode cX6_sumsAt 13 = .ok (.invokevirtual 278, 3) := dk_182 1 22 (dk_at dksX6_sumsAt_0 13 rfl rfl)
theorem dX6_sumsAt_16 : decode cX6_sumsAt 16 = .ok (.ifCond .eq 16, 3) := dk_153 0 16 (dk_at dksX6_sumsAt_0 16 rfl rfl)
theorem dX6_sumsAt_19 : decode cX6_sumsAt 19 = .ok (.iload_n 2, 1) := dk_28 (dk_at dksX6_sumsAt_0 19 rfl rfl)
theorem dX6_sumsAt_20 : decode cX6_sumsAt 20 = .ok (.aload_n 0, 1) := dk_42 (dk_at dksX6_sumsAt_0 20 rfl rfl)
theorem dX6_sumsAt_21 : decode cX6_sumsAt 21 = .ok (.getfield 7, 3) := dk_180 0 7 (dk_at dksX6_sumsAt_0 21 rfl rfl)
theorem dX6_sumsAt_24 : decode cX6_sumsAt 24 = .ok (.sipush 264, 3) := dk_17 1 8 (dk_at dksX6_sumsAt_1 0 rfl rfl)
theorem dX6_sumsAt_27 : decode cX6_sumsAt 27 = .ok (.iload_n 3, 1) := dk_29 (dk_at dksX6_sumsAt_1 3 rfl rfl)
theorem dX6_sumsAt_28 : decode cX6_sumsAt 28 = .ok (.iadd, 1) := dk_96 (dk_at dksX6_sumsAt_1 4 rfl rfl)
theorem dX6_sumsAt_29 : decode cX6_sumsAt 29 = .ok (.iaload, 1) := dk_46 (dk_at dksX6_sumsAt_1 5 rfl rfl)
theorem dX6_sumsAt_30 : decode cX6_sumsAt 30 = .ok (.iadd, 1) := dk_96 (dk_at dksX6_sumsAt_1 6 rfl rfl)
theorem dX6_sumsAt_31 : decode cX6_sumsAt 31 = .ok (.istore_n 2, 1) := dk_61 (dk_at dksX6_sumsAt_1 7 rfl rfl)
theorem dX6_sumsAt_32 : decode cX6_sumsAt 32 = .ok (.iinc 3 1, 3) := dk_132 3 1 (dk_at dksX6_sumsAt_1 8 rfl rfl)
theorem dX6_sumsAt_35 : decode cX6_sumsAt 35 = .ok (.goto (-31), 3) := dk_167 255 225 (dk_at dksX6_sumsAt_1 11 rfl rfl)
theorem dX6_sumsAt_38 : decode cX6_sumsAt 38 = .ok (.iload_n 2, 1) := dk_28 (dk_at dksX6_sumsAt_1 14 rfl rfl)
theorem dX6_sumsAt_39 : decode cX6_sumsAt 39 = .ok (.ireturn, 1) := dk_172 (dk_at dksX6_sumsAt_1 15 rfl rfl)
abbrev cX6_byLaw : ByteArray := prog_20_method_42_code
def yX6_byLaw : MethodName := ⟨RX6, "byLaw", "(III)I"⟩
def dkwX6_byLaw_4 : List UInt8 := [167, 255, 165, 28, 172]
abbrev dktX6_byLaw_4 : List UInt8 := dkwX6_byLaw_4 ++ []
def dkwX6_byLaw_3 : List UInt8 := [162, 0, 7, 28, 167, 0, 15, 21, 5, 29, 164, 0, 7, 29, 167, 0, 5, 21, 5, 172, 132, 4, 1]
abbrev dktX6_byLaw_3 : List UInt8 := dkwX6_byLaw_3 ++ dktX6_byLaw_4
def dkwX6_byLaw_2 : List UInt8 := [42, 42, 180, 0, 53, 21, 4, 46, 42, 180, 0, 56, 21, 4, 46, 182, 0, 225, 54, 5, 21, 5, 28]
abbrev dktX6_byLaw_2 : List UInt8 := dkwX6_byLaw_2 ++ dktX6_byLaw_3
def dkwX6_byLaw_1 : List UInt8 := [42, 180, 0, 56, 21, 4, 46, 42, 180, 0, 59, 21, 4, 46, 182, 0, 225, 4, 159, 0, 6, 167, 0, 46]
abbrev dktX6_byLaw_1 : List UInt8 := dkwX6_byLaw_1 ++ dktX6_byLaw_2
def dkwX6_byLaw_0 : List UInt8 := [3, 54, 4, 21, 4, 42, 180, 0, 218, 162, 0, 88, 42, 180, 0, 50, 21, 4, 46, 27, 160, 0, 71, 42]
abbrev dktX6_byLaw_0 : List UInt8 := dkwX6_byLaw_0 ++ dktX6_byLaw_1
theorem dksX6_byLaw_0 : cX6_byLaw.data.toList.drop 0 = dktX6_byLaw_0 := by decide +kernel
theorem dksX6_byLaw_1 : cX6_byLaw.data.toList.drop 24 = dktX6_byLaw_1 := dk_seg dksX6_byLaw_0 24 rfl rfl
theorem dksX6_byLaw_2 : cX6_byLaw.data.toList.drop 48 = dktX6_byLaw_2 := dk_seg dksX6_byLaw_1 24 rfl rfl
theorem dksX6_byLaw_3 : cX6_byLaw.data.toList.drop 71 = dktX6_byLaw_3 := dk_seg dksX6_byLaw_2 23 rfl rfl
theorem dksX6_byLaw_4 : cX6_byLaw.data.toList.drop 94 = dktX6_byLaw_4 := dk_seg dksX6_byLaw_3 23 rfl rfl
theorem dX6_byLaw_0 : decode cX6_byLaw 0 = .ok (.iconst 0, 1) := dk_3 (dk_at dksX6_byLaw_0 0 rfl rfl)
theorem dX6_byLaw_1 : decode cX6_byLaw 1 = .ok (.istore 4, 2) := dk_54 4 (dk_at dksX6_byLaw_0 1 rfl rfl)
theorem dX6_byLaw_3 : decode cX6_byLaw 3 = .ok (.iload 4, 2) := dk_21 4 (dk_at dksX6_byLaw_0 3 rfl rfl)
theorem dX6_byLaw_5 : decode cX6_byLaw 5 = .ok (.aload_n 0, 1) := dk_42 (dk_at dksX6_byLaw_0 5 rfl rfl)
theorem dX6_byLaw_6 : decode cX6_byLaw 6 = .ok (.getfield 218, 3) := dk_180 0 218 (dk_at dksX6_byLaw_0 6 rfl rfl)
theorem dX6_byLaw_9 : decode cX6_byLaw 9 = .ok (.if_icmp .ge 88, 3) := dk_162 0 88 (dk_at dksX6_byLaw_0 9 rfl rfl)
theorem dX6_byLaw_12 : decode cX6_byLaw 12 = .ok (.aload_n 0, 1) := dk_42 (dk_at dksX6_byLaw_0 12 rfl rfl)
theorem dX6_byLaw_13 : decode cX6_byLaw 13 = .ok (.getfield 50, 3) := dk_180 0 50 (dk_at dksX6_byLaw_0 13 rfl rfl)
theorem dX6_byLaw_16 : decode cX6_byLaw 16 = .ok (.iload 4, 2) := dk_21 4 (dk_at dksX6_byLaw_0 16 rfl rfl)
theorem dX6_byLaw_18 : decode cX6_byLaw 18 = .ok (.iaload, 1) := dk_46 (dk_at dksX6_byLaw_0 18 rfl rfl)
theorem dX6_byLaw_19 : decode cX6_byLaw 19 = .ok (.iload_n 1, 1) := dk_27 (dk_at dksX6_byLaw_0 19 rfl rfl)
theorem dX6_byLaw_20 : decode cX6_byLaw 20 = .ok (.if_icmp .ne 71, 3) := dk_160 0 71 (dk_at dksX6_byLaw_0 20 rfl rfl)
theorem dX6_byLaw_23 : decode cX6_byLaw 23 = .ok (.aload_n 0, 1) := dk_42 (dk_at dksX6_byLaw_0 23 rfl rfl)
theorem dX6_byLaw_24 : decode cX6_byLaw 24 = .ok (.aload_n 0, 1) := dk_42 (dk_at dksX6_byLaw_1 0 rfl rfl)
theorem dX6_byLaw_25 : decode cX6_byLaw 25 = .ok (.getfield 56, 3) := dk_180 0 56 (dk_at dksX6_byLaw_1 1 rfl rfl)
theorem dX6_byLaw_28 : decode cX6_byLaw 28 = .ok (.iload 4, 2) := dk_21 4 (dk_at dksX6_byLaw_1 4 rfl rfl)
theorem dX6_byLaw_30 : decode cX6_byLaw 30 = .ok (.iaload, 1) := dk_46 (dk_at dksX6_byLaw_1 6 rfl rfl)
theorem dX6_byLaw_31 : decode cX6_byLaw 31 = .ok (.aload_n 0, 1) := dk_42 (dk_at dksX6_byLaw_1 7 rfl rfl)
theorem dX6_byLaw_32 : decode cX6_byLaw 32 = .ok (.getfield 59, 3) := dk_180 0 59 (dk_at dksX6_byLaw_1 8 rfl rfl)
theorem dX6_byLaw_35 : decode cX6_byLaw 35 = .ok (.iload 4, 2) := dk_21 4 (dk_at dksX6_byLaw_1 11 rfl rfl)
theorem dX6_byLaw_37 : decode cX6_byLaw 37 = .ok (.iaload, 1) := dk_46 (dk_at dksX6_byLaw_1 13 rfl rfl)
theorem dX6_byLaw_38 : decode cX6_byLaw 38 = .ok (.invokevirtual 225, 3) := dk_182 0 225 (dk_at dksX6_byLaw_1 14 rfl rfl)
theorem dX6_byLaw_41 : decode cX6_byLaw 41 = .ok (.iconst 1, 1) := dk_4 (dk_at dksX6_byLaw_1 17 rfl rfl)
theorem dX6_byLaw_42 : decode cX6_byLaw 42 = .ok (.if_icmp .eq 6, 3) := dk_159 0 6 (dk_at dksX6_byLaw_1 18 rfl rfl)
theorem dX6_byLaw_45 : decode cX6_byLaw 45 = .ok (.goto 46, 3) := dk_167 0 46 (dk_at dksX6_byLaw_1 21 rfl rfl)
theorem dX6_byLaw_48 : decode cX6_byLaw 48 = .ok (.aload_n 0, 1) := dk_42 (dk_at dksX6_byLaw_2 0 rfl rfl)
theorem dX6_byLaw_49 : decode cX6_byLaw 49 = .ok (.aload_n 0, 1) := dk_42 (dk_at dksX6_byLaw_2 1 rfl rfl)
theorem dX6_byLaw_50 : decode cX6_byLaw 50 = .ok (.getfield 53, 3) := dk_180 0 53 (dk_at dksX6_byLaw_2 2 rfl rfl)
theorem dX6_byLaw_53 : decode cX6_byLaw 53 = .ok (.iload 4, 2) := dk_21 4 (dk_at dksX6_byLaw_2 5 rfl rfl)
theorem dX6_byLaw_55 : decode cX6_byLaw 55 = .ok (.iaload, 1) := dk_46 (dk_at dksX6_byLaw_2 7 rfl rfl)
theorem dX6_byLaw_56 : decode cX6_byLaw 56 = .ok (.aload_n 0, 1) := dk_42 (dk_at dksX6_byLaw_2 8 rfl rfl)
theorem dX6_byLaw_57 : decode cX6_byLaw 57 = .ok (.getfield 56, 3) := dk_180 0 56 (dk_at dksX6_byLaw_2 9 rfl rfl)
theorem dX6_byLaw_60 : decode cX6_byLaw 60 = .ok (.iload 4, 2) := dk_21 4 (dk_at dksX6_byLaw_2 12 rfl rfl)
theorem dX6_byLaw_62 : decode cX6_byLaw 62 = .ok (.iaload, 1) := dk_46 (dk_at dksX6_byLaw_2 14 rfl rfl)
theorem dX6_byLaw_63 : decode cX6_byLaw 63 = .ok (.invokevirtual 225, 3) := dk_182 0 225 (dk_at dksX6_byLaw_2 15 rfl rfl)
theorem dX6_byLaw_66 : decode cX6_byLaw 66 = .ok (.istore 5, 2) := dk_54 5 (dk_at dksX6_byLaw_2 18 rfl rfl)
theorem dX6_byLaw_68 : decode cX6_byLaw 68 = .ok (.iload 5, 2) := dk_21 5 (dk_at dksX6_byLaw_2 20 rfl rfl)
theorem dX6_byLaw_70 : decode cX6_byLaw 70 = .ok (.iload_n 2, 1) := dk_28 (dk_at dksX6_byLaw_2 22 rfl rfl)
theorem dX6_byLaw_71 : decode cX6_byLaw 71 = .ok (.if_icmp .ge 7, 3) := dk_162 0 7 (dk_at dksX6_byLaw_3 0 rfl rfl)
theorem dX6_byLaw_74 : decode cX6_byLaw 74 = .ok (.iload_n 2, 1) := dk_28 (dk_at dksX6_byLaw_3 3 rfl rfl)
theorem dX6_byLaw_75 : decode cX6_byLaw 75 = .ok (.goto 15, 3) := dk_167 0 15 (dk_at dksX6_byLaw_3 4 rfl rfl)
theorem dX6_byLaw_78 : decode cX6_byLaw 78 = .ok (.iload 5, 2) := dk_21 5 (dk_at dksX6_byLaw_3 7 rfl rfl)
theorem dX6_byLaw_80 : decode cX6_byLaw 80 = .ok (.iload_n 3, 1) := dk_29 (dk_at dksX6_byLaw_3 9 rfl rfl)
theorem dX6_byLaw_81 : decode cX6_byLaw 81 = .ok (.if_icmp .le 7, 3) := dk_164 0 7 (dk_at dksX6_byLaw_3 10 rfl rfl)
theorem dX6_byLaw_84 : decode cX6_byLaw 84 = .ok (.iload_n 3, 1) := dk_29 (dk_at dksX6_byLaw_3 13 rfl rfl)
theorem dX6_byLaw_85 : decode cX6_byLaw 85 = .ok (.goto 5, 3) := dk_167 0 5 (dk_at dksX6_byLaw_3 14 rfl rfl)
theorem dX6_byLaw_88 : decode cX6_byLaw 88 = .ok (.iload 5, 2) := dk_21 5 (dk_at dksX6_byLaw_3 17 rfl rfl)
theorem dX6_byLaw_90 : decode cX6_byLaw 90 = .ok (.ireturn, 1) := dk_172 (dk_at dksX6_byLaw_3 19 rfl rfl)
theorem dX6_byLaw_91 : decode cX6_byLaw 91 = .ok (.iinc 4 1, 3) := dk_132 4 1 (dk_at dksX6_byLaw_3 20 rfl rfl)
theorem dX6_byLaw_94 : decode cX6_byLaw 94 = .ok (.goto (-91), 3) := dk_167 255 165 (dk_at dksX6_byLaw_4 0 rfl rfl)
theorem dX6_byLaw_97 : decode cX6_byLaw 97 = .ok (.iload_n 2, 1) := dk_28 (dk_at dksX6_byLaw_4 3 rfl rfl)
theorem dX6_byLaw_98 : decode cX6_byLaw 98 = .ok (.ireturn, 1) := dk_172 (dk_at dksX6_byLaw_4 4 rfl rfl)
abbrev cX6_reckonsTo : ByteArray := prog_20_method_41_code
def yX6_reckonsTo : MethodName := ⟨RX6, "reckonsTo", "(II)I"⟩
def dkwX6_reckonsTo_10 : List UInt8 := [3, 46, 172]
abbrev dktX6_reckonsTo_10 : List UInt8 := dkwX6_reckonsTo_10 ++ []
def dkwX6_reckonsTo_9 : List UInt8 := [180, 0, 62, 29, 4, 100, 46, 42, 180, 0, 62, 29, 46, 184, 0, 221, 79, 167, 255, 42, 42, 180, 0, 62]
abbrev dktX6_reckonsTo_9 : List UInt8 := dkwX6_reckonsTo_9 ++ dktX6_reckonsTo_10
def dkwX6_reckonsTo_8 : List UInt8 := [160, 0, 14, 42, 180, 0, 62, 29, 46, 154, 0, 5, 3, 172, 42, 180, 0, 62, 29, 4, 100, 21, 6, 42]
abbrev dktX6_reckonsTo_8 : List UInt8 := dkwX6_reckonsTo_8 ++ dktX6_reckonsTo_9
def dkwX6_reckonsTo_7 : List UInt8 := [167, 0, 65, 29, 4, 100, 62, 167, 0, 58, 29, 4, 100, 62, 21, 6, 8, 159, 0, 10, 21, 6, 16, 6]
abbrev dktX6_reckonsTo_7 : List UInt8 := dkwX6_reckonsTo_7 ++ dktX6_reckonsTo_8
def dkwX6_reckonsTo_6 : List UInt8 := [100, 46, 21, 6, 16, 12, 160, 0, 7, 4, 167, 0, 4, 3, 160, 0, 13, 21, 4, 21, 7, 96, 54, 5]
abbrev dktX6_reckonsTo_6 : List UInt8 := dkwX6_reckonsTo_6 ++ dktX6_reckonsTo_7
def dkwX6_reckonsTo_5 : List UInt8 := [79, 167, 0, 112, 21, 6, 16, 11, 159, 0, 10, 21, 6, 16, 12, 160, 0, 43, 42, 180, 0, 62, 29, 4]
abbrev dktX6_reckonsTo_5 : List UInt8 := dkwX6_reckonsTo_5 ++ dktX6_reckonsTo_6
def dkwX6_reckonsTo_4 : List UInt8 := [21, 6, 16, 10, 160, 0, 24, 42, 180, 0, 62, 29, 4, 100, 4, 42, 180, 0, 62, 29, 4, 100, 46, 100]
abbrev dktX6_reckonsTo_4 : List UInt8 := dkwX6_reckonsTo_4 ++ dktX6_reckonsTo_5
def dkwX6_reckonsTo_3 : List UInt8 := [154, 0, 8, 21, 7, 167, 0, 10, 42, 180, 0, 65, 21, 7, 46, 79, 29, 4, 96, 62, 167, 0, 140]
abbrev dktX6_reckonsTo_3 : List UInt8 := dkwX6_reckonsTo_3 ++ dktX6_reckonsTo_4
def dkwX6_reckonsTo_2 : List UInt8 := [21, 5, 4, 96, 54, 5, 21, 6, 153, 0, 9, 21, 6, 4, 160, 0, 33, 42, 180, 0, 62, 29, 21, 6]
abbrev dktX6_reckonsTo_2 : List UInt8 := dkwX6_reckonsTo_2 ++ dktX6_reckonsTo_3
def dkwX6_reckonsTo_1 : List UInt8 := [180, 0, 47, 21, 5, 46, 18, 151, 108, 54, 6, 42, 180, 0, 47, 21, 5, 46, 18, 151, 112, 54, 7]
abbrev dktX6_reckonsTo_1 : List UInt8 := dkwX6_reckonsTo_1 ++ dktX6_reckonsTo_2
def dkwX6_reckonsTo_0 : List UInt8 := [3, 62, 17, 1, 4, 27, 17, 1, 4, 108, 104, 54, 4, 27, 54, 5, 21, 5, 28, 162, 0, 214, 42]
abbrev dktX6_reckonsTo_0 : List UInt8 := dkwX6_reckonsTo_0 ++ dktX6_reckonsTo_1
theorem dksX6_reckonsTo_0 : cX6_reckonsTo.data.toList.drop 0 = dktX6_reckonsTo_0 := by decide +kernel
theorem dksX6_reckonsTo_1 : cX6_reckonsTo.data.toList.drop 23 = dktX6_reckonsTo_1 := dk_seg dksX6_reckonsTo_0 23 rfl rfl
theorem dksX6_reckonsTo_2 : cX6_reckonsTo.data.toList.drop 46 = dktX6_reckonsTo_2 := dk_seg dksX6_reckonsTo_1 23 rfl rfl
theorem dksX6_reckonsTo_3 : cX6_reckonsTo.data.toList.drop 70 = dktX6_reckonsTo_3 := dk_seg dksX6_reckonsTo_2 24 rfl rfl
theorem dksX6_reckonsTo_4 : cX6_reckonsTo.data.toList.drop 93 = dktX6_reckonsTo_4 := dk_seg dksX6_reckonsTo_3 23 rfl rfl
theorem dksX6_reckonsTo_5 : cX6_reckonsTo.data.toList.drop 117 = dktX6_reckonsTo_5 := dk_seg dksX6_reckonsTo_4 24 rfl rfl
theorem dksX6_reckonsTo_6 : cX6_reckonsTo.data.toList.drop 141 = dktX6_reckonsTo_6 := dk_seg dksX6_reckonsTo_5 24 rfl rfl
theorem dksX6_reckonsTo_7 : cX6_reckonsTo.data.toList.drop 165 = dktX6_reckonsTo_7 := dk_seg dksX6_reckonsTo_6 24 rfl rfl
theorem dksX6_reckonsTo_8 : cX6_reckonsTo.data.toList.drop 189 = dktX6_reckonsTo_8 := dk_seg dksX6_reckonsTo_7 24 rfl rfl
theorem dksX6_reckonsTo_9 : cX6_reckonsTo.data.toList.drop 213 = dktX6_reckonsTo_9 := dk_seg dksX6_reckonsTo_8 24 rfl rfl
theorem dksX6_reckonsTo_10 : cX6_reckonsTo.data.toList.drop 237 = dktX6_reckonsTo_10 := dk_seg dksX6_reckonsTo_9 24 rfl rfl
theorem dX6_reckonsTo_0 : decode cX6_reckonsTo 0 = .ok (.iconst 0, 1) := dk_3 (dk_at dksX6_reckonsTo_0 0 rfl rfl)
theorem dX6_reckonsTo_1 : decode cX6_reckonsTo 1 = .ok (.istore_n 3, 1) := dk_62 (dk_at dksX6_reckonsTo_0 1 rfl rfl)
theorem dX6_reckonsTo_2 : decode cX6_reckonsTo 2 = .ok (.sipush 260, 3) := dk_17 1 4 (dk_at dksX6_reckonsTo_0 2 rfl rfl)
theorem dX6_reckonsTo_5 : decode cX6_reckonsTo 5 = .ok (.iload_n 1, 1) := dk_27 (dk_at dksX6_reckonsTo_0 5 rfl rfl)
theorem dX6_reckonsTo_6 : decode cX6_reckonsTo 6 = .ok (.sipush 260, 3) := dk_17 1 4 (dk_at dksX6_reckonsTo_0 6 rfl rfl)
theorem dX6_reckonsTo_9 : decode cX6_reckonsTo 9 = .ok (.idiv, 1) := dk_108 (dk_at dksX6_reckonsTo_0 9 rfl rfl)
theorem dX6_reckonsTo_10 : decode cX6_reckonsTo 10 = .ok (.imul, 1) := dk_104 (dk_at dksX6_reckonsTo_0 10 rfl rfl)
theorem dX6_reckonsTo_11 : decode cX6_reckonsTo 11 = .ok (.istore 4, 2) := dk_54 4 (dk_at dksX6_reckonsTo_0 11 rfl rfl)
theorem dX6_reckonsTo_13 : decode cX6_reckonsTo 13 = .ok (.iload_n 1, 1) := dk_27 (dk_at dksX6_reckonsTo_0 13 rfl rfl)
theorem dX6_reckonsTo_14 : decode cX6_reckonsTo 14 = .ok (.istore 5, 2) := dk_54 5 (dk_at dksX6_reckonsTo_0 14 rfl rfl)
theorem dX6_reckonsTo_16 : decode cX6_reckonsTo 16 = .ok (.iload 5, 2) := dk_21 5 (dk_at dksX6_reckonsTo_0 16 rfl rfl)
theorem dX6_reckonsTo_18 : decode cX6_reckonsTo 18 = .ok (.iload_n 2, 1) := dk_28 (dk_at dksX6_reckonsTo_0 18 rfl rfl)
theorem dX6_reckonsTo_19 : decode cX6_reckonsTo 19 = .ok (.if_icmp .ge 214, 3) := dk_162 0 214 (dk_at dksX6_reckonsTo_0 19 rfl rfl)
theorem dX6_reckonsTo_22 : decode cX6_reckonsTo 22 = .ok (.aload_n 0, 1) := dk_42 (dk_at dksX6_reckonsTo_0 22 rfl rfl)
theorem dX6_reckonsTo_23 : decode cX6_reckonsTo 23 = .ok (.getfield 47, 3) := dk_180 0 47 (dk_at dksX6_reckonsTo_1 0 rfl rfl)
theorem dX6_reckonsTo_26 : decode cX6_reckonsTo 26 = .ok (.iload 5, 2) := dk_21 5 (dk_at dksX6_reckonsTo_1 3 rfl rfl)
theorem dX6_reckonsTo_28 : decode cX6_reckonsTo 28 = .ok (.iaload, 1) := dk_46 (dk_at dksX6_reckonsTo_1 5 rfl rfl)
theorem dX6_reckonsTo_29 : decode cX6_reckonsTo 29 = .ok (.ldc 151, 2) := dk_18 151 (dk_at dksX6_reckonsTo_1 6 rfl rfl)
theorem dX6_reckonsTo_31 : decode cX6_reckonsTo 31 = .ok (.idiv, 1) := dk_108 (dk_at dksX6_reckonsTo_1 8 rfl rfl)
theorem dX6_reckonsTo_32 : decode cX6_reckonsTo 32 = .ok (.istore 6, 2) := dk_54 6 (dk_at dksX6_reckonsTo_1 9 rfl rfl)
theorem dX6_reckonsTo_34 : decode cX6_reckonsTo 34 = .ok (.aload_n 0, 1) := dk_42 (dk_at dksX6_reckonsTo_1 11 rfl rfl)
theorem dX6_reckonsTo_35 : decode cX6_reckonsTo 35 = .ok (.getfield 47, 3) := dk_180 0 47 (dk_at dksX6_reckonsTo_1 12 rfl rfl)
theorem dX6_reckonsTo_38 : decode cX6_reckonsTo 38 = .ok (.iload 5, 2) := dk_21 5 (dk_at dksX6_reckonsTo_1 15 rfl rfl)
theorem dX6_reckonsTo_40 : decode cX6_reckonsTo 40 = .ok (.iaload, 1) := dk_46 (dk_at dksX6_reckonsTo_1 17 rfl rfl)
theorem dX6_reckonsTo_41 : decode cX6_reckonsTo 41 = .ok (.ldc 151, 2) := dk_18 151 (dk_at dksX6_reckonsTo_1 18 rfl rfl)
theorem dX6_reckonsTo_43 : decode cX6_reckonsTo 43 = .ok (.irem, 1) := dk_112 (dk_at dksX6_reckonsTo_1 20 rfl rfl)
theorem dX6_reckonsTo_44 : decode cX6_reckonsTo 44 = .ok (.istore 7, 2) := dk_54 7 (dk_at dksX6_reckonsTo_1 21 rfl rfl)
theorem dX6_reckonsTo_46 : decode cX6_reckonsTo 46 = .ok (.iload 5, 2) := dk_21 5 (dk_at dksX6_reckonsTo_2 0 rfl rfl)
theorem dX6_reckonsTo_48 : decode cX6_reckonsTo 48 = .ok (.iconst 1, 1) := dk_4 (dk_at dksX6_reckonsTo_2 2 rfl rfl)
theorem dX6_reckonsTo_49 : decode cX6_reckonsTo 49 = .ok (.iadd, 1) := dk_96 (dk_at dksX6_reckonsTo_2 3 rfl rfl)
theorem dX6_reckonsTo_50 : decode cX6_reckonsTo 50 = .ok (.istore 5, 2) := dk_54 5 (dk_at dksX6_reckonsTo_2 4 rfl rfl)
theorem dX6_reckonsTo_52 : decode cX6_reckonsTo 52 = .ok (.iload 6, 2) := dk_21 6 (dk_at dksX6_reckonsTo_2 6 rfl rfl)
theorem dX6_reckonsTo_54 : decode cX6_reckonsTo 54 = .ok (.ifCond .eq 9, 3) := dk_153 0 9 (dk_at dksX6_reckonsTo_2 8 rfl rfl)
theorem dX6_reckonsTo_57 : decode cX6_reckonsTo 57 = .ok (.iload 6, 2) := dk_21 6 (dk_at dksX6_reckonsTo_2 11 rfl rfl)
theorem dX6_reckonsTo_59 : decode cX6_reckonsTo 59 = .ok (.iconst 1, 1) := dk_4 (dk_at dksX6_reckonsTo_2 13 rfl rfl)
theorem dX6_reckonsTo_60 : decode cX6_reckonsTo 60 = .ok (.if_icmp .ne 33, 3) := dk_160 0 33 (dk_at dksX6_reckonsTo_2 14 rfl rfl)
theorem dX6_reckonsTo_63 : decode cX6_reckonsTo 63 = .ok (.aload_n 0, 1) := dk_42 (dk_at dksX6_reckonsTo_2 17 rfl rfl)
theorem dX6_reckonsTo_64 : decode cX6_reckonsTo 64 = .ok (.getfield 62, 3) := dk_180 0 62 (dk_at dksX6_reckonsTo_2 18 rfl rfl)
theorem dX6_reckonsTo_67 : decode cX6_reckonsTo 67 = .ok (.iload_n 3, 1) := dk_29 (dk_at dksX6_reckonsTo_2 21 rfl rfl)
theorem dX6_reckonsTo_68 : decode cX6_reckonsTo 68 = .ok (.iload 6, 2) := dk_21 6 (dk_at dksX6_reckonsTo_2 22 rfl rfl)
theorem dX6_reckonsTo_70 : decode cX6_reckonsTo 70 = .ok (.ifCond .ne 8, 3) := dk_154 0 8 (dk_at dksX6_reckonsTo_3 0 rfl rfl)
theorem dX6_reckonsTo_73 : decode cX6_reckonsTo 73 = .ok (.iload 7, 2) := dk_21 7 (dk_at dksX6_reckonsTo_3 3 rfl rfl)
theorem dX6_reckonsTo_75 : decode cX6_reckonsTo 75 = .ok (.goto 10, 3) := dk_167 0 10 (dk_at dksX6_reckonsTo_3 5 rfl rfl)
theorem dX6_reckonsTo_78 : decode cX6_reckonsTo 78 = .ok (.aload_n 0, 1) := dk_42 (dk_at dksX6_reckonsTo_3 8 rfl rfl)
theorem dX6_reckonsTo_79 : decode cX6_reckonsTo 79 = .ok (.getfield 65, 3) := dk_180 0 65 (dk_at dksX6_reckonsTo_3 9 rfl rfl)
theorem dX6_reckonsTo_82 : decode cX6_reckonsTo 82 = .ok (.iload 7, 2) := dk_21 7 (dk_at dksX6_reckonsTo_3 12 rfl rfl)
theorem dX6_reckonsTo_84 : decode cX6_reckonsTo 84 = .ok (.iaload, 1) := dk_46 (dk_at dksX6_reckonsTo_3 14 rfl rfl)
theorem dX6_reckonsTo_85 : decode cX6_reckonsTo 85 = .ok (.iastore, 1) := dk_79 (dk_at dksX6_reckonsTo_3 15 rfl rfl)
theorem dX6_reckonsTo_86 : decode cX6_reckonsTo 86 = .ok (.iload_n 3, 1) := dk_29 (dk_at dksX6_reckonsTo_3 16 rfl rfl)
theorem dX6_reckonsTo_87 : decode cX6_reckonsTo 87 = .ok (.iconst 1, 1) := dk_4 (dk_at dksX6_reckonsTo_3 17 rfl rfl)
theorem dX6_reckonsTo_88 : decode cX6_reckonsTo 88 = .ok (.iadd, 1) := dk_96 (dk_at dksX6_reckonsTo_3 18 rfl rfl)
theorem dX6_reckonsTo_89 : decode cX6_reckonsTo 89 = .ok (.istore_n 3, 1) := dk_62 (dk_at dksX6_reckonsTo_3 19 rfl rfl)
theorem dX6_reckonsTo_90 : decode cX6_reckonsTo 90 = .ok (.goto 140, 3) := dk_167 0 140 (dk_at dksX6_reckonsTo_3 20 rfl rfl)
theorem dX6_reckonsTo_93 : decode cX6_reckonsTo 93 = .ok (.iload 6, 2) := dk_21 6 (dk_at dksX6_reckonsTo_4 0 rfl rfl)
theorem dX6_reckonsTo_95 : decode cX6_reckonsTo 95 = .ok (.bipush 10, 2) := dk_16 10 (dk_at dksX6_reckonsTo_4 2 rfl rfl)
theorem dX6_reckonsTo_97 : decode cX6_reckonsTo 97 = .ok (.if_icmp .ne 24, 3) := dk_160 0 24 (dk_at dksX6_reckonsTo_4 4 rfl rfl)
theorem dX6_reckonsTo_100 : decode cX6_reckonsTo 100 = .ok (.aload_n 0, 1) := dk_42 (dk_at dksX6_reckonsTo_4 7 rfl rfl)
theorem dX6_reckonsTo_101 : decode cX6_reckonsTo 101 = .ok (.getfield 62, 3) := dk_180 0 62 (dk_at dksX6_reckonsTo_4 8 rfl rfl)
theorem dX6_reckonsTo_104 : decode cX6_reckonsTo 104 = .ok (.iload_n 3, 1) := dk_29 (dk_at dksX6_reckonsTo_4 11 rfl rfl)
theorem dX6_reckonsTo_105 : decode cX6_reckonsTo 105 = .ok (.iconst 1, 1) := dk_4 (dk_at dksX6_reckonsTo_4 12 rfl rfl)
theorem dX6_reckonsTo_106 : decode cX6_reckonsTo 106 = .ok (.isub, 1) := dk_100 (dk_at dksX6_reckonsTo_4 13 rfl rfl)
theorem dX6_reckonsTo_107 : decode cX6_reckonsTo 107 = .ok (.iconst 1, 1) := dk_4 (dk_at dksX6_reckonsTo_4 14 rfl rfl)
theorem dX6_reckonsTo_108 : decode cX6_reckonsTo 108 = .ok (.aload_n 0, 1) := dk_42 (dk_at dksX6_reckonsTo_4 15 rfl rfl)
theorem dX6_reckonsTo_109 : decode cX6_reckonsTo 109 = .ok (.getfield 62, 3) := dk_180 0 62 (dk_at dksX6_reckonsTo_4 16 rfl rfl)
theorem dX6_reckonsTo_112 : decode cX6_reckonsTo 112 = .ok (.iload_n 3, 1) := dk_29 (dk_at dksX6_reckonsTo_4 19 rfl rfl)
theorem dX6_reckonsTo_113 : decode cX6_reckonsTo 113 = .ok (.iconst 1, 1) := dk_4 (dk_at dksX6_reckonsTo_4 20 rfl rfl)
theorem dX6_reckonsTo_114 : decode cX6_reckonsTo 114 = .ok (.isub, 1) := dk_100 (dk_at dksX6_reckonsTo_4 21 rfl rfl)
theorem dX6_reckonsTo_115 : decode cX6_reckonsTo 115 = .ok (.iaload, 1) := dk_46 (dk_at dksX6_reckonsTo_4 22 rfl rfl)
theorem dX6_reckonsTo_116 : decode cX6_reckonsTo 116 = .ok (.isub, 1) := dk_100 (dk_at dksX6_reckonsTo_4 23 rfl rfl)
theorem dX6_reckonsTo_117 : decode cX6_reckonsTo 117 = .ok (.iastore, 1) := dk_79 (dk_at dksX6_reckonsTo_5 0 rfl rfl)
theorem dX6_reckonsTo_118 : decode cX6_reckonsTo 118 = .ok (.goto 112, 3) := dk_167 0 112 (dk_at dksX6_reckonsTo_5 1 rfl rfl)
theorem dX6_reckonsTo_121 : decode cX6_reckonsTo 121 = .ok (.iload 6, 2) := dk_21 6 (dk_at dksX6_reckonsTo_5 4 rfl rfl)
theorem dX6_reckonsTo_123 : decode cX6_reckonsTo 123 = .ok (.bipush 11, 2) := dk_16 11 (dk_at dksX6_reckonsTo_5 6 rfl rfl)
theorem dX6_reckonsTo_125 : decode cX6_reckonsTo 125 = .ok (.if_icmp .eq 10, 3) := dk_159 0 10 (dk_at dksX6_reckonsTo_5 8 rfl rfl)
theorem dX6_reckonsTo_128 : decode cX6_reckonsTo 128 = .ok (.iload 6, 2) := dk_21 6 (dk_at dksX6_reckonsTo_5 11 rfl rfl)
theorem dX6_reckonsTo_130 : decode cX6_reckonsTo 130 = .ok (.bipush 12, 2) := dk_16 12 (dk_at dksX6_reckonsTo_5 13 rfl rfl)
theorem dX6_reckonsTo_132 : decode cX6_reckonsTo 132 = .ok (.if_icmp .ne 43, 3) := dk_160 0 43 (dk_at dksX6_reckonsTo_5 15 rfl rfl)
theorem dX6_reckonsTo_135 : decode cX6_reckonsTo 135 = .ok (.aload_n 0, 1) := dk_42 (dk_at dksX6_reckonsTo_5 18 rfl rfl)
theorem dX6_reckonsTo_136 : decode cX6_reckonsTo 136 = .ok (.getfield 62, 3) := dk_180 0 62 (dk_at dksX6_reckonsTo_5 19 rfl rfl)
theorem dX6_reckonsTo_139 : decode cX6_reckonsTo 139 = .ok (.iload_n 3, 1) := dk_29 (dk_at dksX6_reckonsTo_5 22 rfl rfl)
theorem dX6_reckonsTo_140 : decode cX6_reckonsTo 140 = .ok (.iconst 1, 1) := dk_4 (dk_at dksX6_reckonsTo_5 23 rfl rfl)
theorem dX6_reckonsTo_141 : decode cX6_reckonsTo 141 = .ok (.isub, 1) := dk_100 (dk_at dksX6_reckonsTo_6 0 rfl rfl)
theorem dX6_reckonsTo_142 : decode cX6_reckonsTo 142 = .ok (.iaload, 1) := dk_46 (dk_at dksX6_reckonsTo_6 1 rfl rfl)
theorem dX6_reckonsTo_143 : decode cX6_reckonsTo 143 = .ok (.iload 6, 2) := dk_21 6 (dk_at dksX6_reckonsTo_6 2 rfl rfl)
theorem dX6_reckonsTo_145 : decode cX6_reckonsTo 145 = .ok (.bipush 12, 2) := dk_16 12 (dk_at dksX6_reckonsTo_6 4 rfl rfl)
theorem dX6_reckonsTo_147 : decode cX6_reckonsTo 147 = .ok (.if_icmp .ne 7, 3) := dk_160 0 7 (dk_at dksX6_reckonsTo_6 6 rfl rfl)
theorem dX6_reckonsTo_150 : decode cX6_reckonsTo 150 = .ok (.iconst 1, 1) := dk_4 (dk_at dksX6_reckonsTo_6 9 rfl rfl)
theorem dX6_reckonsTo_151 : decode cX6_reckonsTo 151 = .ok (.goto 4, 3) := dk_167 0 4 (dk_at dksX6_reckonsTo_6 10 rfl rfl)
theorem dX6_reckonsTo_154 : decode cX6_reckonsTo 154 = .ok (.iconst 0, 1) := dk_3 (dk_at dksX6_reckonsTo_6 13 rfl rfl)
theorem dX6_reckonsTo_155 : decode cX6_reckonsTo 155 = .ok (.if_icmp .ne 13, 3) := dk_160 0 13 (dk_at dksX6_reckonsTo_6 14 rfl rfl)
theorem dX6_reckonsTo_158 : decode cX6_reckonsTo 158 = .ok (.iload 4, 2) := dk_21 4 (dk_at dksX6_reckonsTo_6 17 rfl rfl)
theorem dX6_reckonsTo_160 : decode cX6_reckonsTo 160 = .ok (.iload 7, 2) := dk_21 7 (dk_at dksX6_reckonsTo_6 19 rfl rfl)
theorem dX6_reckonsTo_162 : decode cX6_reckonsTo 162 = .ok (.iadd, 1) := dk_96 (dk_at dksX6_reckonsTo_6 21 rfl rfl)
theorem dX6_reckonsTo_163 : decode cX6_reckonsTo 163 = .ok (.istore 5, 2) := dk_54 5 (dk_at dksX6_reckonsTo_6 22 rfl rfl)
theorem dX6_reckonsTo_165 : decode cX6_reckonsTo 165 = .ok (.goto 65, 3) := dk_167 0 65 (dk_at dksX6_reckonsTo_7 0 rfl rfl)
theorem dX6_reckonsTo_168 : decode cX6_reckonsTo 168 = .ok (.iload_n 3, 1) := dk_29 (dk_at dksX6_reckonsTo_7 3 rfl rfl)
theorem dX6_reckonsTo_169 : decode cX6_reckonsTo 169 = .ok (.iconst 1, 1) := dk_4 (dk_at dksX6_reckonsTo_7 4 rfl rfl)
theorem dX6_reckonsTo_170 : decode cX6_reckonsTo 170 = .ok (.isub, 1) := dk_100 (dk_at dksX6_reckonsTo_7 5 rfl rfl)
theorem dX6_reckonsTo_171 : decode cX6_reckonsTo 171 = .ok (.istore_n 3, 1) := dk_62 (dk_at dksX6_reckonsTo_7 6 rfl rfl)
theorem dX6_reckonsTo_172 : decode cX6_reckonsTo 172 = .ok (.goto 58, 3) := dk_167 0 58 (dk_at dksX6_reckonsTo_7 7 rfl rfl)
theorem dX6_reckonsTo_175 : decode cX6_reckonsTo 175 = .ok (.iload_n 3, 1) := dk_29 (dk_at dksX6_reckonsTo_7 10 rfl rfl)
theorem dX6_reckonsTo_176 : decode cX6_reckonsTo 176 = .ok (.iconst 1, 1) := dk_4 (dk_at dksX6_reckonsTo_7 11 rfl rfl)
theorem dX6_reckonsTo_177 : decode cX6_reckonsTo 177 = .ok (.isub, 1) := dk_100 (dk_at dksX6_reckonsTo_7 12 rfl rfl)
theorem dX6_reckonsTo_178 : decode cX6_reckonsTo 178 = .ok (.istore_n 3, 1) := dk_62 (dk_at dksX6_reckonsTo_7 13 rfl rfl)
theorem dX6_reckonsTo_179 : decode cX6_reckonsTo 179 = .ok (.iload 6, 2) := dk_21 6 (dk_at dksX6_reckonsTo_7 14 rfl rfl)
theorem dX6_reckonsTo_181 : decode cX6_reckonsTo 181 = .ok (.iconst 5, 1) := dk_8 (dk_at dksX6_reckonsTo_7 16 rfl rfl)
theorem dX6_reckonsTo_182 : decode cX6_reckonsTo 182 = .ok (.if_icmp .eq 10, 3) := dk_159 0 10 (dk_at dksX6_reckonsTo_7 17 rfl rfl)
theorem dX6_reckonsTo_185 : decode cX6_reckonsTo 185 = .ok (.iload 6, 2) := dk_21 6 (dk_at dksX6_reckonsTo_7 20 rfl rfl)
theorem dX6_reckonsTo_187 : decode cX6_reckonsTo 187 = .ok (.bipush 6, 2) := dk_16 6 (dk_at dksX6_reckonsTo_7 22 rfl rfl)
theorem dX6_reckonsTo_189 : decode cX6_reckonsTo 189 = .ok (.if_icmp .ne 14, 3) := dk_160 0 14 (dk_at dksX6_reckonsTo_8 0 rfl rfl)
theorem dX6_reckonsTo_192 : decode cX6_reckonsTo 192 = .ok (.aload_n 0, 1) := dk_42 (dk_at dksX6_reckonsTo_8 3 rfl rfl)
theorem dX6_reckonsTo_193 : decode cX6_reckonsTo 193 = .ok (.getfield 62, 3) := dk_180 0 62 (dk_at dksX6_reckonsTo_8 4 rfl rfl)
theorem dX6_reckonsTo_196 : decode cX6_reckonsTo 196 = .ok (.iload_n 3, 1) := dk_29 (dk_at dksX6_reckonsTo_8 7 rfl rfl)
theorem dX6_reckonsTo_197 : decode cX6_reckonsTo 197 = .ok (.iaload, 1) := dk_46 (dk_at dksX6_reckonsTo_8 8 rfl rfl)
theorem dX6_reckonsTo_198 : decode cX6_reckonsTo 198 = .ok (.ifCond .ne 5, 3) := dk_154 0 5 (dk_at dksX6_reckonsTo_8 9 rfl rfl)
theorem dX6_reckonsTo_201 : decode cX6_reckonsTo 201 = .ok (.iconst 0, 1) := dk_3 (dk_at dksX6_reckonsTo_8 12 rfl rfl)
theorem dX6_reckonsTo_202 : decode cX6_reckonsTo 202 = .ok (.ireturn, 1) := dk_172 (dk_at dksX6_reckonsTo_8 13 rfl rfl)
theorem dX6_reckonsTo_203 : decode cX6_reckonsTo 203 = .ok (.aload_n 0, 1) := dk_42 (dk_at dksX6_reckonsTo_8 14 rfl rfl)
theorem dX6_reckonsTo_204 : decode cX6_reckonsTo 204 = .ok (.getfield 62, 3) := dk_180 0 62 (dk_at dksX6_reckonsTo_8 15 rfl rfl)
theorem dX6_reckonsTo_207 : decode cX6_reckonsTo 207 = .ok (.iload_n 3, 1) := dk_29 (dk_at dksX6_reckonsTo_8 18 rfl rfl)
theorem dX6_reckonsTo_208 : decode cX6_reckonsTo 208 = .ok (.iconst 1, 1) := dk_4 (dk_at dksX6_reckonsTo_8 19 rfl rfl)
theorem dX6_reckonsTo_209 : decode cX6_reckonsTo 209 = .ok (.isub, 1) := dk_100 (dk_at dksX6_reckonsTo_8 20 rfl rfl)
theorem dX6_reckonsTo_210 : decode cX6_reckonsTo 210 = .ok (.iload 6, 2) := dk_21 6 (dk_at dksX6_reckonsTo_8 21 rfl rfl)
theorem dX6_reckonsTo_212 : decode cX6_reckonsTo 212 = .ok (.aload_n 0, 1) := dk_42 (dk_at dksX6_reckonsTo_8 23 rfl rfl)
theorem dX6_reckonsTo_213 : decode cX6_reckonsTo 213 = .ok (.getfield 62, 3) := dk_180 0 62 (dk_at dksX6_reckonsTo_9 0 rfl rfl)
theorem dX6_reckonsTo_216 : decode cX6_reckonsTo 216 = .ok (.iload_n 3, 1) := dk_29 (dk_at dksX6_reckonsTo_9 3 rfl rfl)
theorem dX6_reckonsTo_217 : decode cX6_reckonsTo 217 = .ok (.iconst 1, 1) := dk_4 (dk_at dksX6_reckonsTo_9 4 rfl rfl)
theorem dX6_reckonsTo_218 : decode cX6_reckonsTo 218 = .ok (.isub, 1) := dk_100 (dk_at dksX6_reckonsTo_9 5 rfl rfl)
theorem dX6_reckonsTo_219 : decode cX6_reckonsTo 219 = .ok (.iaload, 1) := dk_46 (dk_at dksX6_reckonsTo_9 6 rfl rfl)
theorem dX6_reckonsTo_220 : decode cX6_reckonsTo 220 = .ok (.aload_n 0, 1) := dk_42 (dk_at dksX6_reckonsTo_9 7 rfl rfl)
theorem dX6_reckonsTo_221 : decode cX6_reckonsTo 221 = .ok (.getfield 62, 3) := dk_180 0 62 (dk_at dksX6_reckonsTo_9 8 rfl rfl)
theorem dX6_reckonsTo_224 : decode cX6_reckonsTo 224 = .ok (.iload_n 3, 1) := dk_29 (dk_at dksX6_reckonsTo_9 11 rfl rfl)
theorem dX6_reckonsTo_225 : decode cX6_reckonsTo 225 = .ok (.iaload, 1) := dk_46 (dk_at dksX6_reckonsTo_9 12 rfl rfl)
theorem dX6_reckonsTo_226 : decode cX6_reckonsTo 226 = .ok (.invokestatic 221, 3) := dk_184 0 221 (dk_at dksX6_reckonsTo_9 13 rfl rfl)
theorem dX6_reckonsTo_229 : decode cX6_reckonsTo 229 = .ok (.iastore, 1) := dk_79 (dk_at dksX6_reckonsTo_9 16 rfl rfl)
theorem dX6_reckonsTo_230 : decode cX6_reckonsTo 230 = .ok (.goto (-214), 3) := dk_167 255 42 (dk_at dksX6_reckonsTo_9 17 rfl rfl)
theorem dX6_reckonsTo_233 : decode cX6_reckonsTo 233 = .ok (.aload_n 0, 1) := dk_42 (dk_at dksX6_reckonsTo_9 20 rfl rfl)
theorem dX6_reckonsTo_234 : decode cX6_reckonsTo 234 = .ok (.getfield 62, 3) := dk_180 0 62 (dk_at dksX6_reckonsTo_9 21 rfl rfl)
theorem dX6_reckonsTo_237 : decode cX6_reckonsTo 237 = .ok (.iconst 0, 1) := dk_3 (dk_at dksX6_reckonsTo_10 0 rfl rfl)
theorem dX6_reckonsTo_238 : decode cX6_reckonsTo 238 = .ok (.iaload, 1) := dk_46 (dk_at dksX6_reckonsTo_10 1 rfl rfl)
theorem dX6_reckonsTo_239 : decode cX6_reckonsTo 239 = .ok (.ireturn, 1) := dk_172 (dk_at dksX6_reckonsTo_10 2 rfl rfl)
abbrev cX6_reckon : ByteArray := prog_20_method_40_code
def yX6_reckon : MethodName := ⟨RX6, "reckon", "(III)I"⟩
def dkwX6_reckon_4 : List UInt8 := [160, 0, 7, 4, 167, 0, 4, 3, 172]
abbrev dktX6_reckon_4 : List UInt8 := dkwX6_reckon_4 ++ []
def dkwX6_reckon_3 : List UInt8 := [162, 0, 7, 4, 167, 0, 4, 3, 172, 27, 28, 164, 0, 7, 4, 167, 0, 4, 3, 172, 27, 28]
abbrev dktX6_reckon_3 : List UInt8 := dkwX6_reckon_3 ++ dktX6_reckon_4
def dkwX6_reckon_2 : List UInt8 := [27, 28, 96, 172, 27, 28, 100, 172, 27, 28, 104, 172, 27, 28, 108, 172, 27, 28, 112, 172, 27, 28]
abbrev dktX6_reckon_2 : List UInt8 := dkwX6_reckon_2 ++ dktX6_reckon_3
def dkwX6_reckon_1 : List UInt8 := [170, 0, 0, 0, 0, 0, 85, 0, 0, 0, 2, 0, 0, 0, 8, 0, 0, 0, 43, 0, 0, 0, 47, 0, 0, 0, 51, 0, 0, 0, 55, 0, 0, 0, 59, 0, 0, 0, 63, 0, 0, 0, 74]
abbrev dktX6_reckon_1 : List UInt8 := dkwX6_reckon_1 ++ dktX6_reckon_2
def dkwX6_reckon_0 : List UInt8 := [26]
abbrev dktX6_reckon_0 : List UInt8 := dkwX6_reckon_0 ++ dktX6_reckon_1
theorem dksX6_reckon_0 : cX6_reckon.data.toList.drop 0 = dktX6_reckon_0 := by decide +kernel
theorem dksX6_reckon_1 : cX6_reckon.data.toList.drop 1 = dktX6_reckon_1 := dk_seg dksX6_reckon_0 1 rfl rfl
theorem dksX6_reckon_2 : cX6_reckon.data.toList.drop 44 = dktX6_reckon_2 := dk_seg dksX6_reckon_1 43 rfl rfl
theorem dksX6_reckon_3 : cX6_reckon.data.toList.drop 66 = dktX6_reckon_3 := dk_seg dksX6_reckon_2 22 rfl rfl
theorem dksX6_reckon_4 : cX6_reckon.data.toList.drop 88 = dktX6_reckon_4 := dk_seg dksX6_reckon_3 22 rfl rfl
theorem dX6_reckon_0 : decode cX6_reckon 0 = .ok (.iload_n 0, 1) := dk_26 (dk_at dksX6_reckon_0 0 rfl rfl)
theorem dX6_reckon_1 : decode cX6_reckon 1 = .ok (.tableswitch 85 2 8 #[43, 47, 51, 55, 59, 63, 74], 43) := by decide +kernel
theorem dX6_reckon_44 : decode cX6_reckon 44 = .ok (.iload_n 1, 1) := dk_27 (dk_at dksX6_reckon_2 0 rfl rfl)
theorem dX6_reckon_45 : decode cX6_reckon 45 = .ok (.iload_n 2, 1) := dk_28 (dk_at dksX6_reckon_2 1 rfl rfl)
theorem dX6_reckon_46 : decode cX6_reckon 46 = .ok (.iadd, 1) := dk_96 (dk_at dksX6_reckon_2 2 rfl rfl)
theorem dX6_reckon_47 : decode cX6_reckon 47 = .ok (.ireturn, 1) := dk_172 (dk_at dksX6_reckon_2 3 rfl rfl)
theorem dX6_reckon_48 : decode cX6_reckon 48 = .ok (.iload_n 1, 1) := dk_27 (dk_at dksX6_reckon_2 4 rfl rfl)
theorem dX6_reckon_49 : decode cX6_reckon 49 = .ok (.iload_n 2, 1) := dk_28 (dk_at dksX6_reckon_2 5 rfl rfl)
theorem dX6_reckon_50 : decode cX6_reckon 50 = .ok (.isub, 1) := dk_100 (dk_at dksX6_reckon_2 6 rfl rfl)
theorem dX6_reckon_51 : decode cX6_reckon 51 = .ok (.ireturn, 1) := dk_172 (dk_at dksX6_reckon_2 7 rfl rfl)
theorem dX6_reckon_52 : decode cX6_reckon 52 = .ok (.iload_n 1, 1) := dk_27 (dk_at dksX6_reckon_2 8 rfl rfl)
theorem dX6_reckon_53 : decode cX6_reckon 53 = .ok (.iload_n 2, 1) := dk_28 (dk_at dksX6_reckon_2 9 rfl rfl)
theorem dX6_reckon_54 : decode cX6_reckon 54 = .ok (.imul, 1) := dk_104 (dk_at dksX6_reckon_2 10 rfl rfl)
theorem dX6_reckon_55 : decode cX6_reckon 55 = .ok (.ireturn, 1) := dk_172 (dk_at dksX6_reckon_2 11 rfl rfl)
theorem dX6_reckon_56 : decode cX6_reckon 56 = .ok (.iload_n 1, 1) := dk_27 (dk_at dksX6_reckon_2 12 rfl rfl)
theorem dX6_reckon_57 : decode cX6_reckon 57 = .ok (.iload_n 2, 1) := dk_28 (dk_at dksX6_reckon_2 13 rfl rfl)
theorem dX6_reckon_58 : decode cX6_reckon 58 = .ok (.idiv, 1) := dk_108 (dk_at dksX6_reckon_2 14 rfl rfl)
theorem dX6_reckon_59 : decode cX6_reckon 59 = .ok (.ireturn, 1) := dk_172 (dk_at dksX6_reckon_2 15 rfl rfl)
theorem dX6_reckon_60 : decode cX6_reckon 60 = .ok (.iload_n 1, 1) := dk_27 (dk_at dksX6_reckon_2 16 rfl rfl)
theorem dX6_reckon_61 : decode cX6_reckon 61 = .ok (.iload_n 2, 1) := dk_28 (dk_at dksX6_reckon_2 17 rfl rfl)
theorem dX6_reckon_62 : decode cX6_reckon 62 = .ok (.irem, 1) := dk_112 (dk_at dksX6_reckon_2 18 rfl rfl)
theorem dX6_reckon_63 : decode cX6_reckon 63 = .ok (.ireturn, 1) := dk_172 (dk_at dksX6_reckon_2 19 rfl rfl)
theorem dX6_reckon_64 : decode cX6_reckon 64 = .ok (.iload_n 1, 1) := dk_27 (dk_at dksX6_reckon_2 20 rfl rfl)
theorem dX6_reckon_65 : decode cX6_reckon 65 = .ok (.iload_n 2, 1) := dk_28 (dk_at dksX6_reckon_2 21 rfl rfl)
theorem dX6_reckon_66 : decode cX6_reckon 66 = .ok (.if_icmp .ge 7, 3) := dk_162 0 7 (dk_at dksX6_reckon_3 0 rfl rfl)
theorem dX6_reckon_69 : decode cX6_reckon 69 = .ok (.iconst 1, 1) := dk_4 (dk_at dksX6_reckon_3 3 rfl rfl)
theorem dX6_reckon_70 : decode cX6_reckon 70 = .ok (.goto 4, 3) := dk_167 0 4 (dk_at dksX6_reckon_3 4 rfl rfl)
theorem dX6_reckon_73 : decode cX6_reckon 73 = .ok (.iconst 0, 1) := dk_3 (dk_at dksX6_reckon_3 7 rfl rfl)
theorem dX6_reckon_74 : decode cX6_reckon 74 = .ok (.ireturn, 1) := dk_172 (dk_at dksX6_reckon_3 8 rfl rfl)
theorem dX6_reckon_75 : decode cX6_reckon 75 = .ok (.iload_n 1, 1) := dk_27 (dk_at dksX6_reckon_3 9 rfl rfl)
theorem dX6_reckon_76 : decode cX6_reckon 76 = .ok (.iload_n 2, 1) := dk_28 (dk_at dksX6_reckon_3 10 rfl rfl)
theorem dX6_reckon_77 : decode cX6_reckon 77 = .ok (.if_icmp .le 7, 3) := dk_164 0 7 (dk_at dksX6_reckon_3 11 rfl rfl)
theorem dX6_reckon_80 : decode cX6_reckon 80 = .ok (.iconst 1, 1) := dk_4 (dk_at dksX6_reckon_3 14 rfl rfl)
theorem dX6_reckon_81 : decode cX6_reckon 81 = .ok (.goto 4, 3) := dk_167 0 4 (dk_at dksX6_reckon_3 15 rfl rfl)
theorem dX6_reckon_84 : decode cX6_reckon 84 = .ok (.iconst 0, 1) := dk_3 (dk_at dksX6_reckon_3 18 rfl rfl)
theorem dX6_reckon_85 : decode cX6_reckon 85 = .ok (.ireturn, 1) := dk_172 (dk_at dksX6_reckon_3 19 rfl rfl)
theorem dX6_reckon_86 : decode cX6_reckon 86 = .ok (.iload_n 1, 1) := dk_27 (dk_at dksX6_reckon_3 20 rfl rfl)
theorem dX6_reckon_87 : decode cX6_reckon 87 = .ok (.iload_n 2, 1) := dk_28 (dk_at dksX6_reckon_3 21 rfl rfl)
theorem dX6_reckon_88 : decode cX6_reckon 88 = .ok (.if_icmp .ne 7, 3) := dk_160 0 7 (dk_at dksX6_reckon_4 0 rfl rfl)
theorem dX6_reckon_91 : decode cX6_reckon 91 = .ok (.iconst 1, 1) := dk_4 (dk_at dksX6_reckon_4 3 rfl rfl)
theorem dX6_reckon_92 : decode cX6_reckon 92 = .ok (.goto 4, 3) := dk_167 0 4 (dk_at dksX6_reckon_4 4 rfl rfl)
theorem dX6_reckon_95 : decode cX6_reckon 95 = .ok (.iconst 0, 1) := dk_3 (dk_at dksX6_reckon_4 7 rfl rfl)
theorem dX6_reckon_96 : decode cX6_reckon 96 = .ok (.ireturn, 1) := dk_172 (dk_at dksX6_reckon_4 8 rfl rfl)
abbrev cX6_draws : ByteArray := prog_20_method_61_code
def yX6_draws : MethodName := ⟨RX6, "draws", "()I"⟩
def dkwX6_draws_1 : List UInt8 := [19, 1, 37, 112, 79, 42, 180, 0, 7, 17, 1, 58, 46, 16, 10, 112, 172]
abbrev dktX6_draws_1 : List UInt8 := dkwX6_draws_1 ++ []
def dkwX6_draws_0 : List UInt8 := [42, 180, 0, 7, 17, 1, 58, 17, 98, 85, 42, 180, 0, 7, 17, 1, 58, 46, 104, 17, 54, 25, 96]
abbrev dktX6_draws_0 : List UInt8 := dkwX6_draws_0 ++ dktX6_draws_1
theorem dksX6_draws_0 : cX6_draws.data.toList.drop 0 = dktX6_draws_0 := by decide +kernel
theorem dksX6_draws_1 : cX6_draws.data.toList.drop 23 = dktX6_draws_1 := dk_seg dksX6_draws_0 23 rfl rfl
theorem dX6_draws_0 : decode cX6_draws 0 = .ok (.aload_n 0, 1) := dk_42 (dk_at dksX6_draws_0 0 rfl rfl)
theorem dX6_draws_1 : decode cX6_draws 1 = .ok (.getfield 7, 3) := dk_180 0 7 (dk_at dksX6_draws_0 1 rfl rfl)
theorem dX6_draws_4 : decode cX6_draws 4 = .ok (.sipush 314, 3) := dk_17 1 58 (dk_at dksX6_draws_0 4 rfl rfl)
theorem dX6_draws_7 : decode cX6_draws 7 = .ok (.sipush 25173, 3) := dk_17 98 85 (dk_at dksX6_draws_0 7 rfl rfl)
theorem dX6_draws_10 : decode cX6_draws 10 = .ok (.aload_n 0, 1) := dk_42 (dk_at dksX6_draws_0 10 rfl rfl)
theorem dX6_draws_11 : decode cX6_draws 11 = .ok (.getfield 7, 3) := dk_180 0 7 (dk_at dksX6_draws_0 11 rfl rfl)
theorem dX6_draws_14 : decode cX6_draws 14 = .ok (.sipush 314, 3) := dk_17 1 58 (dk_at dksX6_draws_0 14 rfl rfl)
theorem dX6_draws_17 : decode cX6_draws 17 = .ok (.iaload, 1) := dk_46 (dk_at dksX6_draws_0 17 rfl rfl)
theorem dX6_draws_18 : decode cX6_draws 18 = .ok (.imul, 1) := dk_104 (dk_at dksX6_draws_0 18 rfl rfl)
theorem dX6_draws_19 : decode cX6_draws 19 = .ok (.sipush 13849, 3) := dk_17 54 25 (dk_at dksX6_draws_0 19 rfl rfl)
theorem dX6_draws_22 : decode cX6_draws 22 = .ok (.iadd, 1) := dk_96 (dk_at dksX6_draws_0 22 rfl rfl)
theorem dX6_draws_23 : decode cX6_draws 23 = .ok (.ldc_w 293, 3) := dk_19 1 37 (dk_at dksX6_draws_1 0 rfl rfl)
theorem dX6_draws_26 : decode cX6_draws 26 = .ok (.irem, 1) := dk_112 (dk_at dksX6_draws_1 3 rfl rfl)
theorem dX6_draws_27 : decode cX6_draws 27 = .ok (.iastore, 1) := dk_79 (dk_at dksX6_draws_1 4 rfl rfl)
theorem dX6_draws_28 : decode cX6_draws 28 = .ok (.aload_n 0, 1) := dk_42 (dk_at dksX6_draws_1 5 rfl rfl)
theorem dX6_draws_29 : decode cX6_draws 29 = .ok (.getfield 7, 3) := dk_180 0 7 (dk_at dksX6_draws_1 6 rfl rfl)
theorem dX6_draws_32 : decode cX6_draws 32 = .ok (.sipush 314, 3) := dk_17 1 58 (dk_at dksX6_draws_1 9 rfl rfl)
theorem dX6_draws_35 : decode cX6_draws 35 = .ok (.iaload, 1) := dk_46 (dk_at dksX6_draws_1 12 rfl rfl)
theorem dX6_draws_36 : decode cX6_draws 36 = .ok (.bipush 10, 2) := dk_16 10 (dk_at dksX6_draws_1 13 rfl rfl)
theorem dX6_draws_38 : decode cX6_draws 38 = .ok (.irem, 1) := dk_112 (dk_at dksX6_draws_1 15 rfl rfl)
theorem dX6_draws_39 : decode cX6_draws 39 = .ok (.ireturn, 1) := dk_172 (dk_at dksX6_draws_1 16 rfl rfl)
abbrev cX6_holdsAny : ByteArray := prog_20_method_43_code
def yX6_holdsAny : MethodName := ⟨RX6, "holdsAny", "(I)Z"⟩
def dkwX6_holdsAny_2 : List UInt8 := [167, 255, 213, 3, 172]
abbrev dktX6_holdsAny_2 : List UInt8 := dkwX6_holdsAny_2 ++ []
def dkwX6_holdsAny_1 : List UInt8 := [180, 0, 56, 28, 46, 42, 180, 0, 59, 28, 46, 182, 0, 225, 4, 160, 0, 5, 4, 172, 132, 2, 1]
abbrev dktX6_holdsAny_1 : List UInt8 := dkwX6_holdsAny_1 ++ dktX6_holdsAny_2
def dkwX6_holdsAny_0 : List UInt8 := [3, 61, 28, 42, 180, 0, 218, 162, 0, 41, 42, 180, 0, 50, 28, 46, 27, 160, 0, 25, 42, 42]
abbrev dktX6_holdsAny_0 : List UInt8 := dkwX6_holdsAny_0 ++ dktX6_holdsAny_1
theorem dksX6_holdsAny_0 : cX6_holdsAny.data.toList.drop 0 = dktX6_holdsAny_0 := by decide +kernel
theorem dksX6_holdsAny_1 : cX6_holdsAny.data.toList.drop 22 = dktX6_holdsAny_1 := dk_seg dksX6_holdsAny_0 22 rfl rfl
theorem dksX6_holdsAny_2 : cX6_holdsAny.data.toList.drop 45 = dktX6_holdsAny_2 := dk_seg dksX6_holdsAny_1 23 rfl rfl
theorem dX6_holdsAny_0 : decode cX6_holdsAny 0 = .ok (.iconst 0, 1) := dk_3 (dk_at dksX6_holdsAny_0 0 rfl rfl)
theorem dX6_holdsAny_1 : decode cX6_holdsAny 1 = .ok (.istore_n 2, 1) := dk_61 (dk_at dksX6_holdsAny_0 1 rfl rfl)
theorem dX6_holdsAny_2 : decode cX6_holdsAny 2 = .ok (.iload_n 2, 1) := dk_28 (dk_at dksX6_holdsAny_0 2 rfl rfl)
theorem dX6_holdsAny_3 : decode cX6_holdsAny 3 = .ok (.aload_n 0, 1) := dk_42 (dk_at dksX6_holdsAny_0 3 rfl rfl)
theorem dX6_holdsAny_4 : decode cX6_holdsAny 4 = .ok (.getfield 218, 3) := dk_180 0 218 (dk_at dksX6_holdsAny_0 4 rfl rfl)
theorem dX6_holdsAny_7 : decode cX6_holdsAny 7 = .ok (.if_icmp .ge 41, 3) := dk_162 0 41 (dk_at dksX6_holdsAny_0 7 rfl rfl)
theorem dX6_holdsAny_10 : decode cX6_holdsAny 10 = .ok (.aload_n 0, 1) := dk_42 (dk_at dksX6_holdsAny_0 10 rfl rfl)
theorem dX6_holdsAny_11 : decode cX6_holdsAny 11 = .ok (.getfield 50, 3) := dk_180 0 50 (dk_at dksX6_holdsAny_0 11 rfl rfl)
theorem dX6_holdsAny_14 : decode cX6_holdsAny 14 = .ok (.iload_n 2, 1) := dk_28 (dk_at dksX6_holdsAny_0 14 rfl rfl)
theorem dX6_holdsAny_15 : decode cX6_holdsAny 15 = .ok (.iaload, 1) := dk_46 (dk_at dksX6_holdsAny_0 15 rfl rfl)
theorem dX6_holdsAny_16 : decode cX6_holdsAny 16 = .ok (.iload_n 1, 1) := dk_27 (dk_at dksX6_holdsAny_0 16 rfl rfl)
theorem dX6_holdsAny_17 : decode cX6_holdsAny 17 = .ok (.if_icmp .ne 25, 3) := dk_160 0 25 (dk_at dksX6_holdsAny_0 17 rfl rfl)
theorem dX6_holdsAny_20 : decode cX6_holdsAny 20 = .ok (.aload_n 0, 1) := dk_42 (dk_at dksX6_holdsAny_0 20 rfl rfl)
theorem dX6_holdsAny_21 : decode cX6_holdsAny 21 = .ok (.aload_n 0, 1) := dk_42 (dk_at dksX6_holdsAny_0 21 rfl rfl)
theorem dX6_holdsAny_22 : decode cX6_holdsAny 22 = .ok (.getfield 56, 3) := dk_180 0 56 (dk_at dksX6_holdsAny_1 0 rfl rfl)
theorem dX6_holdsAny_25 : decode cX6_holdsAny 25 = .ok (.iload_n 2, 1) := dk_28 (dk_at dksX6_holdsAny_1 3 rfl rfl)
theorem dX6_holdsAny_26 : decode cX6_holdsAny 26 = .ok (.iaload, 1) := dk_46 (dk_at dksX6_holdsAny_1 4 rfl rfl)
theorem dX6_holdsAny_27 : decode cX6_holdsAny 27 = .ok (.aload_n 0, 1) := dk_42 (dk_at dksX6_holdsAny_1 5 rfl rfl)
theorem dX6_holdsAny_28 : decode cX6_holdsAny 28 = .ok (.getfield 59, 3) := dk_180 0 59 (dk_at dksX6_holdsAny_1 6 rfl rfl)
theorem dX6_holdsAny_31 : decode cX6_holdsAny 31 = .ok (.iload_n 2, 1) := dk_28 (dk_at dksX6_holdsAny_1 9 rfl rfl)
theorem dX6_holdsAny_32 : decode cX6_holdsAny 32 = .ok (.iaload, 1) := dk_46 (dk_at dksX6_holdsAny_1 10 rfl rfl)
theorem dX6_holdsAny_33 : decode cX6_holdsAny 33 = .ok (.invokevirtual 225, 3) := dk_182 0 225 (dk_at dksX6_holdsAny_1 11 rfl rfl)
theorem dX6_holdsAny_36 : decode cX6_holdsAny 36 = .ok (.iconst 1, 1) := dk_4 (dk_at dksX6_holdsAny_1 14 rfl rfl)
theorem dX6_holdsAny_37 : decode cX6_holdsAny 37 = .ok (.if_icmp .ne 5, 3) := dk_160 0 5 (dk_at dksX6_holdsAny_1 15 rfl rfl)
theorem dX6_holdsAny_40 : decode cX6_holdsAny 40 = .ok (.iconst 1, 1) := dk_4 (dk_at dksX6_holdsAny_1 18 rfl rfl)
theorem dX6_holdsAny_41 : decode cX6_holdsAny 41 = .ok (.ireturn, 1) := dk_172 (dk_at dksX6_holdsAny_1 19 rfl rfl)
theorem dX6_holdsAny_42 : decode cX6_holdsAny 42 = .ok (.iinc 2 1, 3) := dk_132 2 1 (dk_at dksX6_holdsAny_1 20 rfl rfl)
theorem dX6_holdsAny_45 : decode cX6_holdsAny 45 = .ok (.goto (-43), 3) := dk_167 255 213 (dk_at dksX6_holdsAny_2 0 rfl rfl)
theorem dX6_holdsAny_48 : decode cX6_holdsAny 48 = .ok (.iconst 0, 1) := dk_3 (dk_at dksX6_holdsAny_2 3 rfl rfl)
theorem dX6_holdsAny_49 : decode cX6_holdsAny 49 = .ok (.ireturn, 1) := dk_172 (dk_at dksX6_holdsAny_2 4 rfl rfl)
abbrev cX6_faring : ByteArray := prog_20_method_67_code
def yX6_faring : MethodName := ⟨RX6, "faring", "(I)I"⟩
def dkwX6_faring_1 : List UInt8 := [96, 61, 132, 3, 1, 167, 255, 231, 28, 172]
abbrev dktX6_faring_1 : List UInt8 := dkwX6_faring_1 ++ []
def dkwX6_faring_0 : List UInt8 := [3, 61, 3, 62, 29, 16, 96, 162, 0, 25, 42, 180, 0, 7, 3, 29, 96, 46, 27, 160, 0, 7, 28, 4]
abbrev dktX6_faring_0 : List UInt8 := dkwX6_faring_0 ++ dktX6_faring_1
theorem dksX6_faring_0 : cX6_faring.data.toList.drop 0 = dktX6_faring_0 := by decide +kernel
theorem dksX6_faring_1 : cX6_faring.data.toList.drop 24 = dktX6_faring_1 := dk_seg dksX6_faring_0 24 rfl rfl
theorem dX6_faring_0 : decode cX6_faring 0 = .ok (.iconst 0, 1) := dk_3 (dk_at dksX6_faring_0 0 rfl rfl)
theorem dX6_faring_1 : decode cX6_faring 1 = .ok (.istore_n 2, 1) := dk_61 (dk_at dksX6_faring_0 1 rfl rfl)
theorem dX6_faring_2 : decode cX6_faring 2 = .ok (.iconst 0, 1) := dk_3 (dk_at dksX6_faring_0 2 rfl rfl)
theorem dX6_faring_3 : decode cX6_faring 3 = .ok (.istore_n 3, 1) := dk_62 (dk_at dksX6_faring_0 3 rfl rfl)
theorem dX6_faring_4 : decode cX6_faring 4 = .ok (.iload_n 3, 1) := dk_29 (dk_at dksX6_faring_0 4 rfl rfl)
theorem dX6_faring_5 : decode cX6_faring 5 = .ok (.bipush 96, 2) := dk_16 96 (dk_at dksX6_faring_0 5 rfl rfl)
theorem dX6_faring_7 : decode cX6_faring 7 = .ok (.if_icmp .ge 25, 3) := dk_162 0 25 (dk_at dksX6_faring_0 7 rfl rfl)
theorem dX6_faring_10 : decode cX6_faring 10 = .ok (.aload_n 0, 1) := dk_42 (dk_at dksX6_faring_0 10 rfl rfl)
theorem dX6_faring_11 : decode cX6_faring 11 = .ok (.getfield 7, 3) := dk_180 0 7 (dk_at dksX6_faring_0 11 rfl rfl)
theorem dX6_faring_14 : decode cX6_faring 14 = .ok (.iconst 0, 1) := dk_3 (dk_at dksX6_faring_0 14 rfl rfl)
theorem dX6_faring_15 : decode cX6_faring 15 = .ok (.iload_n 3, 1) := dk_29 (dk_at dksX6_faring_0 15 rfl rfl)
theorem dX6_faring_16 : decode cX6_faring 16 = .ok (.iadd, 1) := dk_96 (dk_at dksX6_faring_0 16 rfl rfl)
theorem dX6_faring_17 : decode cX6_faring 17 = .ok (.iaload, 1) := dk_46 (dk_at dksX6_faring_0 17 rfl rfl)
theorem dX6_faring_18 : decode cX6_faring 18 = .ok (.iload_n 1, 1) := dk_27 (dk_at dksX6_faring_0 18 rfl rfl)
theorem dX6_faring_19 : decode cX6_faring 19 = .ok (.if_icmp .ne 7, 3) := dk_160 0 7 (dk_at dksX6_faring_0 19 rfl rfl)
theorem dX6_faring_22 : decode cX6_faring 22 = .ok (.iload_n 2, 1) := dk_28 (dk_at dksX6_faring_0 22 rfl rfl)
theorem dX6_faring_23 : decode cX6_faring 23 = .ok (.iconst 1, 1) := dk_4 (dk_at dksX6_faring_0 23 rfl rfl)
theorem dX6_faring_24 : decode cX6_faring 24 = .ok (.iadd, 1) := dk_96 (dk_at dksX6_faring_1 0 rfl rfl)
theorem dX6_faring_25 : decode cX6_faring 25 = .ok (.istore_n 2, 1) := dk_61 (dk_at dksX6_faring_1 1 rfl rfl)
theorem dX6_faring_26 : decode cX6_faring 26 = .ok (.iinc 3 1, 3) := dk_132 3 1 (dk_at dksX6_faring_1 2 rfl rfl)
theorem dX6_faring_29 : decode cX6_faring 29 = .ok (.goto (-25), 3) := dk_167 255 231 (dk_at dksX6_faring_1 5 rfl rfl)
theorem dX6_faring_32 : decode cX6_faring 32 = .ok (.iload_n 2, 1) := dk_28 (dk_at dksX6_faring_1 8 rfl rfl)
theorem dX6_faring_33 : decode cX6_faring 33 = .ok (.ireturn, 1) := dk_172 (dk_at dksX6_faring_1 9 rfl rfl)
abbrev cX6_tried : ByteArray := prog_20_method_71_code
def yX6_tried : MethodName := ⟨RX6, "tried", "(II)I"⟩
def dkwX6_tried_5 : List UInt8 := [184, 1, 15, 29, 172]
abbrev dktX6_tried_5 : List UInt8 := dkwX6_tried_5 ++ []
def dkwX6_tried_4 : List UInt8 := [167, 0, 16, 42, 182, 1, 72, 62, 167, 0, 8, 42, 182, 1, 75, 62, 42, 180, 0, 13, 42, 180, 0, 7]
abbrev dktX6_tried_4 : List UInt8 := dkwX6_tried_4 ++ dktX6_tried_5
def dkwX6_tried_3 : List UInt8 := [42, 4, 182, 1, 69, 62, 167, 0, 33, 42, 5, 182, 1, 69, 62, 167, 0, 24, 42, 180, 1, 38, 62]
abbrev dktX6_tried_3 : List UInt8 := dkwX6_tried_3 ++ dktX6_tried_4
def dkwX6_tried_2 : List UInt8 := [170, 0, 0, 0, 0, 64, 0, 0, 0, 0, 0, 0, 0, 3, 0, 0, 0, 30, 0, 0, 0, 39, 0, 0, 0, 48, 0, 0, 0, 56]
abbrev dktX6_tried_2 : List UInt8 := dkwX6_tried_2 ++ dktX6_tried_3
def dkwX6_tried_1 : List UInt8 := [180, 0, 7, 42, 180, 0, 13, 184, 1, 15, 42, 27, 182, 1, 66, 28]
abbrev dktX6_tried_1 : List UInt8 := dkwX6_tried_1 ++ dktX6_tried_2
def dkwX6_tried_0 : List UInt8 := [27, 4, 16, 100, 184, 0, 102, 153, 0, 12, 28, 3, 7, 184, 0, 102, 154, 0, 5, 2, 172, 42]
abbrev dktX6_tried_0 : List UInt8 := dkwX6_tried_0 ++ dktX6_tried_1
theorem dksX6_tried_0 : cX6_tried.data.toList.drop 0 = dktX6_tried_0 := by decide +kernel
theorem dksX6_tried_1 : cX6_tried.data.toList.drop 22 = dktX6_tried_1 := dk_seg dksX6_tried_0 22 rfl rfl
theorem dksX6_tried_2 : cX6_tried.data.toList.drop 38 = dktX6_tried_2 := dk_seg dksX6_tried_1 16 rfl rfl
theorem dksX6_tried_3 : cX6_tried.data.toList.drop 68 = dktX6_tried_3 := dk_seg dksX6_tried_2 30 rfl rfl
theorem dksX6_tried_4 : cX6_tried.data.toList.drop 91 = dktX6_tried_4 := dk_seg dksX6_tried_3 23 rfl rfl
theorem dksX6_tried_5 : cX6_tried.data.toList.drop 115 = dktX6_tried_5 := dk_seg dksX6_tried_4 24 rfl rfl
theorem dX6_tried_0 : decode cX6_tried 0 = .ok (.iload_n 1, 1) := dk_27 (dk_at dksX6_tried_0 0 rfl rfl)
theorem dX6_tried_1 : decode cX6_tried 1 = .ok (.iconst 1, 1) := dk_4 (dk_at dksX6_tried_0 1 rfl rfl)
theorem dX6_tried_2 : decode cX6_tried 2 = .ok (.bipush 100, 2) := dk_16 100 (dk_at dksX6_tried_0 2 rfl rfl)
theorem dX6_tried_4 : decode cX6_tried 4 = .ok (.invokestatic 102, 3) := dk_184 0 102 (dk_at dksX6_tried_0 4 rfl rfl)
theorem dX6_tried_7 : decode cX6_tried 7 = .ok (.ifCond .eq 12, 3) := dk_153 0 12 (dk_at dksX6_tried_0 7 rfl rfl)
theorem dX6_tried_10 : decode cX6_tried 10 = .ok (.iload_n 2, 1) := dk_28 (dk_at dksX6_tried_0 10 rfl rfl)
theorem dX6_tried_11 : decode cX6_tried 11 = .ok (.iconst 0, 1) := dk_3 (dk_at dksX6_tried_0 11 rfl rfl)
theorem dX6_tried_12 : decode cX6_tried 12 = .ok (.iconst 4, 1) := dk_7 (dk_at dksX6_tried_0 12 rfl rfl)
theorem dX6_tried_13 : decode cX6_tried 13 = .ok (.invokestatic 102, 3) := dk_184 0 102 (dk_at dksX6_tried_0 13 rfl rfl)
theorem dX6_tried_16 : decode cX6_tried 16 = .ok (.ifCond .ne 5, 3) := dk_154 0 5 (dk_at dksX6_tried_0 16 rfl rfl)
theorem dX6_tried_19 : decode cX6_tried 19 = .ok (.iconst (-1), 1) := dk_2 (dk_at dksX6_tried_0 19 rfl rfl)
theorem dX6_tried_20 : decode cX6_tried 20 = .ok (.ireturn, 1) := dk_172 (dk_at dksX6_tried_0 20 rfl rfl)
theorem dX6_tried_21 : decode cX6_tried 21 = .ok (.aload_n 0, 1) := dk_42 (dk_at dksX6_tried_0 21 rfl rfl)
theorem dX6_tried_22 : decode cX6_tried 22 = .ok (.getfield 7, 3) := dk_180 0 7 (dk_at dksX6_tried_1 0 rfl rfl)
theorem dX6_tried_25 : decode cX6_tried 25 = .ok (.aload_n 0, 1) := dk_42 (dk_at dksX6_tried_1 3 rfl rfl)
theorem dX6_tried_26 : decode cX6_tried 26 = .ok (.getfield 13, 3) := dk_180 0 13 (dk_at dksX6_tried_1 4 rfl rfl)
theorem dX6_tried_29 : decode cX6_tried 29 = .ok (.invokestatic 271, 3) := dk_184 1 15 (dk_at dksX6_tried_1 7 rfl rfl)
theorem dX6_tried_32 : decode cX6_tried 32 = .ok (.aload_n 0, 1) := dk_42 (dk_at dksX6_tried_1 10 rfl rfl)
theorem dX6_tried_33 : decode cX6_tried 33 = .ok (.iload_n 1, 1) := dk_27 (dk_at dksX6_tried_1 11 rfl rfl)
theorem dX6_tried_34 : decode cX6_tried 34 = .ok (.invokevirtual 322, 3) := dk_182 1 66 (dk_at dksX6_tried_1 12 rfl rfl)
theorem dX6_tried_37 : decode cX6_tried 37 = .ok (.iload_n 2, 1) := dk_28 (dk_at dksX6_tried_1 15 rfl rfl)
theorem dX6_tried_38 : decode cX6_tried 38 = .ok (.tableswitch 64 0 3 #[30, 39, 48, 56], 30) := by decide +kernel
theorem dX6_tried_68 : decode cX6_tried 68 = .ok (.aload_n 0, 1) := dk_42 (dk_at dksX6_tried_3 0 rfl rfl)
theorem dX6_tried_69 : decode cX6_tried 69 = .ok (.iconst 1, 1) := dk_4 (dk_at dksX6_tried_3 1 rfl rfl)
theorem dX6_tried_70 : decode cX6_tried 70 = .ok (.invokevirtual 325, 3) := dk_182 1 69 (dk_at dksX6_tried_3 2 rfl rfl)
theorem dX6_tried_73 : decode cX6_tried 73 = .ok (.istore_n 3, 1) := dk_62 (dk_at dksX6_tried_3 5 rfl rfl)
theorem dX6_tried_74 : decode cX6_tried 74 = .ok (.goto 33, 3) := dk_167 0 33 (dk_at dksX6_tried_3 6 rfl rfl)
theorem dX6_tried_77 : decode cX6_tried 77 = .ok (.aload_n 0, 1) := dk_42 (dk_at dksX6_tried_3 9 rfl rfl)
theorem dX6_tried_78 : decode cX6_tried 78 = .ok (.iconst 2, 1) := dk_5 (dk_at dksX6_tried_3 10 rfl rfl)
theorem dX6_tried_79 : decode cX6_tried 79 = .ok (.invokevirtual 325, 3) := dk_182 1 69 (dk_at dksX6_tried_3 11 rfl rfl)
theorem dX6_tried_82 : decode cX6_tried 82 = .ok (.istore_n 3, 1) := dk_62 (dk_at dksX6_tried_3 14 rfl rfl)
theorem dX6_tried_83 : decode cX6_tried 83 = .ok (.goto 24, 3) := dk_167 0 24 (dk_at dksX6_tried_3 15 rfl rfl)
theorem dX6_tried_86 : decode cX6_tried 86 = .ok (.aload_n 0, 1) := dk_42 (dk_at dksX6_tried_3 18 rfl rfl)
theorem dX6_tried_87 : decode cX6_tried 87 = .ok (.getfield 294, 3) := dk_180 1 38 (dk_at dksX6_tried_3 19 rfl rfl)
theorem dX6_tried_90 : decode cX6_tried 90 = .ok (.istore_n 3, 1) := dk_62 (dk_at dksX6_tried_3 22 rfl rfl)
theorem dX6_tried_91 : decode cX6_tried 91 = .ok (.goto 16, 3) := dk_167 0 16 (dk_at dksX6_tried_4 0 rfl rfl)
theorem dX6_tried_94 : decode cX6_tried 94 = .ok (.aload_n 0, 1) := dk_42 (dk_at dksX6_tried_4 3 rfl rfl)
theorem dX6_tried_95 : decode cX6_tried 95 = .ok (.invokevirtual 328, 3) := dk_182 1 72 (dk_at dksX6_tried_4 4 rfl rfl)
theorem dX6_tried_98 : decode cX6_tried 98 = .ok (.istore_n 3, 1) := dk_62 (dk_at dksX6_tried_4 7 rfl rfl)
theorem dX6_tried_99 : decode cX6_tried 99 = .ok (.goto 8, 3) := dk_167 0 8 (dk_at dksX6_tried_4 8 rfl rfl)
theorem dX6_tried_102 : decode cX6_tried 102 = .ok (.aload_n 0, 1) := dk_42 (dk_at dksX6_tried_4 11 rfl rfl)
theorem dX6_tried_103 : decode cX6_tried 103 = .ok (.invokevirtual 331, 3) := dk_182 1 75 (dk_at dksX6_tried_4 12 rfl rfl)
theorem dX6_tried_106 : decode cX6_tried 106 = .ok (.istore_n 3, 1) := dk_62 (dk_at dksX6_tried_4 15 rfl rfl)
theorem dX6_tried_107 : decode cX6_tried 107 = .ok (.aload_n 0, 1) := dk_42 (dk_at dksX6_tried_4 16 rfl rfl)
theorem dX6_tried_108 : decode cX6_tried 108 = .ok (.getfield 13, 3) := dk_180 0 13 (dk_at dksX6_tried_4 17 rfl rfl)
theorem dX6_tried_111 : decode cX6_tried 111 = .ok (.aload_n 0, 1) := dk_42 (dk_at dksX6_tried_4 20 rfl rfl)
theorem dX6_tried_112 : decode cX6_tried 112 = .ok (.getfield 7, 3) := dk_180 0 7 (dk_at dksX6_tried_4 21 rfl rfl)
theorem dX6_tried_115 : decode cX6_tried 115 = .ok (.invokestatic 271, 3) := dk_184 1 15 (dk_at dksX6_tried_5 0 rfl rfl)
theorem dX6_tried_118 : decode cX6_tried 118 = .ok (.iload_n 3, 1) := dk_29 (dk_at dksX6_tried_5 3 rfl rfl)
theorem dX6_tried_119 : decode cX6_tried 119 = .ok (.ireturn, 1) := dk_172 (dk_at dksX6_tried_5 4 rfl rfl)
abbrev cX6_goneSet : ByteArray := prog_20_method_69_code
def yX6_goneSet : MethodName := ⟨RX6, "goneSet", "()I"⟩
def dkwX6_goneSet_1 : List UInt8 := [17, 1, 32, 28, 96, 46, 4, 160, 0, 9, 27, 4, 28, 120, 128, 60, 132, 2, 1, 167, 255, 219, 27, 172]
abbrev dktX6_goneSet_1 : List UInt8 := dkwX6_goneSet_1 ++ []
def dkwX6_goneSet_0 : List UInt8 := [3, 60, 3, 61, 28, 16, 24, 162, 0, 37, 42, 28, 182, 0, 114, 153, 0, 23, 42, 180, 0, 7]
abbrev dktX6_goneSet_0 : List UInt8 := dkwX6_goneSet_0 ++ dktX6_goneSet_1
theorem dksX6_goneSet_0 : cX6_goneSet.data.toList.drop 0 = dktX6_goneSet_0 := by decide +kernel
theorem dksX6_goneSet_1 : cX6_goneSet.data.toList.drop 22 = dktX6_goneSet_1 := dk_seg dksX6_goneSet_0 22 rfl rfl
theorem dX6_goneSet_0 : decode cX6_goneSet 0 = .ok (.iconst 0, 1) := dk_3 (dk_at dksX6_goneSet_0 0 rfl rfl)
theorem dX6_goneSet_1 : decode cX6_goneSet 1 = .ok (.istore_n 1, 1) := dk_60 (dk_at dksX6_goneSet_0 1 rfl rfl)
theorem dX6_goneSet_2 : decode cX6_goneSet 2 = .ok (.iconst 0, 1) := dk_3 (dk_at dksX6_goneSet_0 2 rfl rfl)
theorem dX6_goneSet_3 : decode cX6_goneSet 3 = .ok (.istore_n 2, 1) := dk_61 (dk_at dksX6_goneSet_0 3 rfl rfl)
theorem dX6_goneSet_4 : decode cX6_goneSet 4 = .ok (.iload_n 2, 1) := dk_28 (dk_at dksX6_goneSet_0 4 rfl rfl)
theorem dX6_goneSet_5 : decode cX6_goneSet 5 = .ok (.bipush 24, 2) := dk_16 24 (dk_at dksX6_goneSet_0 5 rfl rfl)
theorem dX6_goneSet_7 : decode cX6_goneSet 7 = .ok (.if_icmp .ge 37, 3) := dk_162 0 37 (dk_at dksX6_goneSet_0 7 rfl rfl)
theorem dX6_goneSet_10 : decode cX6_goneSet 10 = .ok (.aload_n 0, 1) := dk_42 (dk_at dksX6_goneSet_0 10 rfl rfl)
theorem dX6_goneSet_11 : decode cX6_goneSet 11 = .ok (.iload_n 2, 1) := dk_28 (dk_at dksX6_goneSet_0 11 rfl rfl)
theorem dX6_goneSet_12 : decode cX6_goneSet 12 = .ok (.invokevirtual 114, 3) := dk_182 0 114 (dk_at dksX6_goneSet_0 12 rfl rfl)
theorem dX6_goneSet_15 : decode cX6_goneSet 15 = .ok (.ifCond .eq 23, 3) := dk_153 0 23 (dk_at dksX6_goneSet_0 15 rfl rfl)
theorem dX6_goneSet_18 : decode cX6_goneSet 18 = .ok (.aload_n 0, 1) := dk_42 (dk_at dksX6_goneSet_0 18 rfl rfl)
theorem dX6_goneSet_19 : decode cX6_goneSet 19 = .ok (.getfield 7, 3) := dk_180 0 7 (dk_at dksX6_goneSet_0 19 rfl rfl)
theorem dX6_goneSet_22 : decode cX6_goneSet 22 = .ok (.sipush 288, 3) := dk_17 1 32 (dk_at dksX6_goneSet_1 0 rfl rfl)
theorem dX6_goneSet_25 : decode cX6_goneSet 25 = .ok (.iload_n 2, 1) := dk_28 (dk_at dksX6_goneSet_1 3 rfl rfl)
theorem dX6_goneSet_26 : decode cX6_goneSet 26 = .ok (.iadd, 1) := dk_96 (dk_at dksX6_goneSet_1 4 rfl rfl)
theorem dX6_goneSet_27 : decode cX6_goneSet 27 = .ok (.iaload, 1) := dk_46 (dk_at dksX6_goneSet_1 5 rfl rfl)
theorem dX6_goneSet_28 : decode cX6_goneSet 28 = .ok (.iconst 1, 1) := dk_4 (dk_at dksX6_goneSet_1 6 rfl rfl)
theorem dX6_goneSet_29 : decode cX6_goneSet 29 = .ok (.if_icmp .ne 9, 3) := dk_160 0 9 (dk_at dksX6_goneSet_1 7 rfl rfl)
theorem dX6_goneSet_32 : decode cX6_goneSet 32 = .ok (.iload_n 1, 1) := dk_27 (dk_at dksX6_goneSet_1 10 rfl rfl)
theorem dX6_goneSet_33 : decode cX6_goneSet 33 = .ok (.iconst 1, 1) := dk_4 (dk_at dksX6_goneSet_1 11 rfl rfl)
theorem dX6_goneSet_34 : decode cX6_goneSet 34 = .ok (.iload_n 2, 1) := dk_28 (dk_at dksX6_goneSet_1 12 rfl rfl)
theorem dX6_goneSet_35 : decode cX6_goneSet 35 = .ok (.ishl, 1) := dk_120 (dk_at dksX6_goneSet_1 13 rfl rfl)
theorem dX6_goneSet_36 : decode cX6_goneSet 36 = .ok (.ior, 1) := dk_128 (dk_at dksX6_goneSet_1 14 rfl rfl)
theorem dX6_goneSet_37 : decode cX6_goneSet 37 = .ok (.istore_n 1, 1) := dk_60 (dk_at dksX6_goneSet_1 15 rfl rfl)
theorem dX6_goneSet_38 : decode cX6_goneSet 38 = .ok (.iinc 2 1, 3) := dk_132 2 1 (dk_at dksX6_goneSet_1 16 rfl rfl)
theorem dX6_goneSet_41 : decode cX6_goneSet 41 = .ok (.goto (-37), 3) := dk_167 255 219 (dk_at dksX6_goneSet_1 19 rfl rfl)
theorem dX6_goneSet_44 : decode cX6_goneSet 44 = .ok (.iload_n 1, 1) := dk_27 (dk_at dksX6_goneSet_1 22 rfl rfl)
theorem dX6_goneSet_45 : decode cX6_goneSet 45 = .ok (.ireturn, 1) := dk_172 (dk_at dksX6_goneSet_1 23 rfl rfl)
abbrev cX6_sumsInRuins : ByteArray := prog_20_method_70_code
def yX6_sumsInRuins : MethodName := ⟨RX6, "sumsInRuins", "()I"⟩
def dkwX6_sumsInRuins_1 : List UInt8 := [182, 1, 34, 96, 60, 132, 2, 1, 167, 255, 228, 27, 172]
abbrev dktX6_sumsInRuins_1 : List UInt8 := dkwX6_sumsInRuins_1 ++ []
def dkwX6_sumsInRuins_0 : List UInt8 := [3, 60, 3, 61, 28, 16, 96, 162, 0, 28, 42, 180, 0, 7, 3, 28, 96, 46, 153, 0, 11, 27, 42, 28]
abbrev dktX6_sumsInRuins_0 : List UInt8 := dkwX6_sumsInRuins_0 ++ dktX6_sumsInRuins_1
theorem dksX6_sumsInRuins_0 : cX6_sumsInRuins.data.toList.drop 0 = dktX6_sumsInRuins_0 := by decide +kernel
theorem dksX6_sumsInRuins_1 : cX6_sumsInRuins.data.toList.drop 24 = dktX6_sumsInRuins_1 := dk_seg dksX6_sumsInRuins_0 24 rfl rfl
theorem dX6_sumsInRuins_0 : decode cX6_sumsInRuins 0 = .ok (.iconst 0, 1) := dk_3 (dk_at dksX6_sumsInRuins_0 0 rfl rfl)
theorem dX6_sumsInRuins_1 : decode cX6_sumsInRuins 1 = .ok (.istore_n 1, 1) := dk_60 (dk_at dksX6_sumsInRuins_0 1 rfl rfl)
theorem dX6_sumsInRuins_2 : decode cX6_sumsInRuins 2 = .ok (.iconst 0, 1) := dk_3 (dk_at dksX6_sumsInRuins_0 2 rfl rfl)
theorem dX6_sumsInRuins_3 : decode cX6_sumsInRuins 3 = .ok (.istore_n 2, 1) := dk_61 (dk_at dksX6_sumsInRuins_0 3 rfl rfl)
theorem dX6_sumsInRuins_4 : decode cX6_sumsInRuins 4 = .ok (.iload_n 2, 1) := dk_28 (dk_at dksX6_sumsInRuins_0 4 rfl rfl)
theorem dX6_sumsInRuins_5 : decode cX6_sumsInRuins 5 = .ok (.bipush 96, 2) := dk_16 96 (dk_at dksX6_sumsInRuins_0 5 rfl rfl)
theorem dX6_sumsInRuins_7 : decode cX6_sumsInRuins 7 = .ok (.if_icmp .ge 28, 3) := dk_162 0 28 (dk_at dksX6_sumsInRuins_0 7 rfl rfl)
theorem dX6_sumsInRuins_10 : decode cX6_sumsInRuins 10 = .ok (.aload_n 0, 1) := dk_42 (dk_at dksX6_sumsInRuins_0 10 rfl rfl)
theorem dX6_sumsInRuins_11 : decode cX6_sumsInRuins 11 = .ok (.getfield 7, 3) := dk_180 0 7 (dk_at dksX6_sumsInRuins_0 11 rfl rfl)
theorem dX6_sumsInRuins_14 : decode cX6_sumsInRuins 14 = .ok (.iconst 0, 1) := dk_3 (dk_at dksX6_sumsInRuins_0 14 rfl rfl)
theorem dX6_sumsInRuins_15 : decode cX6_sumsInRuins 15 = .ok (.iload_n 2, 1) := dk_28 (dk_at dksX6_sumsInRuins_0 15 rfl rfl)
theorem dX6_sumsInRuins_16 : decode cX6_sumsInRuins 16 = .ok (.iadd, 1) := dk_96 (dk_at dksX6_sumsInRuins_0 16 rfl rfl)
theorem dX6_sumsInRuins_17 : decode cX6_sumsInRuins 17 = .ok (.iaload, 1) := dk_46 (dk_at dksX6_sumsInRuins_0 17 rfl rfl)
theorem dX6_sumsInRuins_18 : decode cX6_sumsInRuins 18 = .ok (.ifCond .eq 11, 3) := dk_153 0 11 (dk_at dksX6_sumsInRuins_0 18 rfl rfl)
theorem dX6_sumsInRuins_21 : decode cX6_sumsInRuins 21 = .ok (.iload_n 1, 1) := dk_27 (dk_at dksX6_sumsInRuins_0 21 rfl rfl)
theorem dX6_sumsInRuins_22 : decode cX6_sumsInRuins 22 = .ok (.aload_n 0, 1) := dk_42 (dk_at dksX6_sumsInRuins_0 22 rfl rfl)
theorem dX6_sumsInRuins_23 : decode cX6_sumsInRuins 23 = .ok (.iload_n 2, 1) := dk_28 (dk_at dksX6_sumsInRuins_0 23 rfl rfl)
theorem dX6_sumsInRuins_24 : decode cX6_sumsInRuins 24 = .ok (.invokevirtual 290, 3) := dk_182 1 34 (dk_at dksX6_sumsInRuins_1 0 rfl rfl)
theorem dX6_sumsInRuins_27 : decode cX6_sumsInRuins 27 = .ok (.iadd, 1) := dk_96 (dk_at dksX6_sumsInRuins_1 3 rfl rfl)
theorem dX6_sumsInRuins_28 : decode cX6_sumsInRuins 28 = .ok (.istore_n 1, 1) := dk_60 (dk_at dksX6_sumsInRuins_1 4 rfl rfl)
theorem dX6_sumsInRuins_29 : decode cX6_sumsInRuins 29 = .ok (.iinc 2 1, 3) := dk_132 2 1 (dk_at dksX6_sumsInRuins_1 5 rfl rfl)
theorem dX6_sumsInRuins_32 : decode cX6_sumsInRuins 32 = .ok (.goto (-28), 3) := dk_167 255 228 (dk_at dksX6_sumsInRuins_1 8 rfl rfl)
theorem dX6_sumsInRuins_35 : decode cX6_sumsInRuins 35 = .ok (.iload_n 1, 1) := dk_27 (dk_at dksX6_sumsInRuins_1 11 rfl rfl)
theorem dX6_sumsInRuins_36 : decode cX6_sumsInRuins 36 = .ok (.ireturn, 1) := dk_172 (dk_at dksX6_sumsInRuins_1 12 rfl rfl)
abbrev cX6_placeIs : ByteArray := prog_20_method_73_code
def yX6_placeIs : MethodName := ⟨RX6, "placeIs", "(III)I"⟩
def dkwX6_placeIs_4 : List UInt8 := [182, 1, 34, 172, 2, 172]
abbrev dktX6_placeIs_4 : List UInt8 := dkwX6_placeIs_4 ++ []
def dkwX6_placeIs_3 : List UInt8 := [21, 4, 96, 46, 172, 42, 21, 4, 182, 1, 78, 172, 42, 21, 4, 182, 1, 31, 172, 42, 21, 4]
abbrev dktX6_placeIs_3 : List UInt8 := dkwX6_placeIs_3 ++ dktX6_placeIs_4
def dkwX6_placeIs_2 : List UInt8 := [42, 180, 0, 19, 21, 4, 46, 172, 42, 180, 0, 7, 3, 21, 4, 96, 46, 172, 42, 180, 0, 7, 16, 96]
abbrev dktX6_placeIs_2 : List UInt8 := dkwX6_placeIs_2 ++ dktX6_placeIs_3
def dkwX6_placeIs_1 : List UInt8 := [170, 0, 0, 0, 87, 0, 0, 0, 0, 0, 0, 0, 5, 0, 0, 0, 37, 0, 0, 0, 45, 0, 0, 0, 55, 0, 0, 0, 66, 0, 0, 0, 73, 0, 0, 0, 80]
abbrev dktX6_placeIs_1 : List UInt8 := dkwX6_placeIs_1 ++ dktX6_placeIs_2
def dkwX6_placeIs_0 : List UInt8 := [27, 28, 184, 0, 106, 154, 0, 5, 2, 172, 16, 12, 28, 104, 27, 96, 54, 4, 29]
abbrev dktX6_placeIs_0 : List UInt8 := dkwX6_placeIs_0 ++ dktX6_placeIs_1
theorem dksX6_placeIs_0 : cX6_placeIs.data.toList.drop 0 = dktX6_placeIs_0 := by decide +kernel
theorem dksX6_placeIs_1 : cX6_placeIs.data.toList.drop 19 = dktX6_placeIs_1 := dk_seg dksX6_placeIs_0 19 rfl rfl
theorem dksX6_placeIs_2 : cX6_placeIs.data.toList.drop 56 = dktX6_placeIs_2 := dk_seg dksX6_placeIs_1 37 rfl rfl
theorem dksX6_placeIs_3 : cX6_placeIs.data.toList.drop 80 = dktX6_placeIs_3 := dk_seg dksX6_placeIs_2 24 rfl rfl
theorem dksX6_placeIs_4 : cX6_placeIs.data.toList.drop 102 = dktX6_placeIs_4 := dk_seg dksX6_placeIs_3 22 rfl rfl
theorem dX6_placeIs_0 : decode cX6_placeIs 0 = .ok (.iload_n 1, 1) := dk_27 (dk_at dksX6_placeIs_0 0 rfl rfl)
theorem dX6_placeIs_1 : decode cX6_placeIs 1 = .ok (.iload_n 2, 1) := dk_28 (dk_at dksX6_placeIs_0 1 rfl rfl)
theorem dX6_placeIs_2 : decode cX6_placeIs 2 = .ok (.invokestatic 106, 3) := dk_184 0 106 (dk_at dksX6_placeIs_0 2 rfl rfl)
theorem dX6_placeIs_5 : decode cX6_placeIs 5 = .ok (.ifCond .ne 5, 3) := dk_154 0 5 (dk_at dksX6_placeIs_0 5 rfl rfl)
theorem dX6_placeIs_8 : decode cX6_placeIs 8 = .ok (.iconst (-1), 1) := dk_2 (dk_at dksX6_placeIs_0 8 rfl rfl)
theorem dX6_placeIs_9 : decode cX6_placeIs 9 = .ok (.ireturn, 1) := dk_172 (dk_at dksX6_placeIs_0 9 rfl rfl)
theorem dX6_placeIs_10 : decode cX6_placeIs 10 = .ok (.bipush 12, 2) := dk_16 12 (dk_at dksX6_placeIs_0 10 rfl rfl)
theorem dX6_placeIs_12 : decode cX6_placeIs 12 = .ok (.iload_n 2, 1) := dk_28 (dk_at dksX6_placeIs_0 12 rfl rfl)
theorem dX6_placeIs_13 : decode cX6_placeIs 13 = .ok (.imul, 1) := dk_104 (dk_at dksX6_placeIs_0 13 rfl rfl)
theorem dX6_placeIs_14 : decode cX6_placeIs 14 = .ok (.iload_n 1, 1) := dk_27 (dk_at dksX6_placeIs_0 14 rfl rfl)
theorem dX6_placeIs_15 : decode cX6_placeIs 15 = .ok (.iadd, 1) := dk_96 (dk_at dksX6_placeIs_0 15 rfl rfl)
theorem dX6_placeIs_16 : decode cX6_placeIs 16 = .ok (.istore 4, 2) := dk_54 4 (dk_at dksX6_placeIs_0 16 rfl rfl)
theorem dX6_placeIs_18 : decode cX6_placeIs 18 = .ok (.iload_n 3, 1) := dk_29 (dk_at dksX6_placeIs_0 18 rfl rfl)
theorem dX6_placeIs_19 : decode cX6_placeIs 19 = .ok (.tableswitch 87 0 5 #[37, 45, 55, 66, 73, 80], 37) := by decide +kernel
theorem dX6_placeIs_56 : decode cX6_placeIs 56 = .ok (.aload_n 0, 1) := dk_42 (dk_at dksX6_placeIs_2 0 rfl rfl)
theorem dX6_placeIs_57 : decode cX6_placeIs 57 = .ok (.getfield 19, 3) := dk_180 0 19 (dk_at dksX6_placeIs_2 1 rfl rfl)
theorem dX6_placeIs_60 : decode cX6_placeIs 60 = .ok (.iload 4, 2) := dk_21 4 (dk_at dksX6_placeIs_2 4 rfl rfl)
theorem dX6_placeIs_62 : decode cX6_placeIs 62 = .ok (.iaload, 1) := dk_46 (dk_at dksX6_placeIs_2 6 rfl rfl)
theorem dX6_placeIs_63 : decode cX6_placeIs 63 = .ok (.ireturn, 1) := dk_172 (dk_at dksX6_placeIs_2 7 rfl rfl)
theorem dX6_placeIs_64 : decode cX6_placeIs 64 = .ok (.aload_n 0, 1) := dk_42 (dk_at dksX6_placeIs_2 8 rfl rfl)
theorem dX6_placeIs_65 : decode cX6_placeIs 65 = .ok (.getfield 7, 3) := dk_180 0 7 (dk_at dksX6_placeIs_2 9 rfl rfl)
theorem dX6_placeIs_68 : decode cX6_placeIs 68 = .ok (.iconst 0, 1) := dk_3 (dk_at dksX6_placeIs_2 12 rfl rfl)
theorem dX6_placeIs_69 : decode cX6_placeIs 69 = .ok (.iload 4, 2) := dk_21 4 (dk_at dksX6_placeIs_2 13 rfl rfl)
theorem dX6_placeIs_71 : decode cX6_placeIs 71 = .ok (.iadd, 1) := dk_96 (dk_at dksX6_placeIs_2 15 rfl rfl)
theorem dX6_placeIs_72 : decode cX6_placeIs 72 = .ok (.iaload, 1) := dk_46 (dk_at dksX6_placeIs_2 16 rfl rfl)
theorem dX6_placeIs_73 : decode cX6_placeIs 73 = .ok (.ireturn, 1) := dk_172 (dk_at dksX6_placeIs_2 17 rfl rfl)
theorem dX6_placeIs_74 : decode cX6_placeIs 74 = .ok (.aload_n 0, 1) := dk_42 (dk_at dksX6_placeIs_2 18 rfl rfl)
theorem dX6_placeIs_75 : decode cX6_placeIs 75 = .ok (.getfield 7, 3) := dk_180 0 7 (dk_at dksX6_placeIs_2 19 rfl rfl)
theorem dX6_placeIs_78 : decode cX6_placeIs 78 = .ok (.bipush 96, 2) := dk_16 96 (dk_at dksX6_placeIs_2 22 rfl rfl)
theorem dX6_placeIs_80 : decode cX6_placeIs 80 = .ok (.iload 4, 2) := dk_21 4 (dk_at dksX6_placeIs_3 0 rfl rfl)
theorem dX6_placeIs_82 : decode cX6_placeIs 82 = .ok (.iadd, 1) := dk_96 (dk_at dksX6_placeIs_3 2 rfl rfl)
theorem dX6_placeIs_83 : decode cX6_placeIs 83 = .ok (.iaload, 1) := dk_46 (dk_at dksX6_placeIs_3 3 rfl rfl)
theorem dX6_placeIs_84 : decode cX6_placeIs 84 = .ok (.ireturn, 1) := dk_172 (dk_at dksX6_placeIs_3 4 rfl rfl)
theorem dX6_placeIs_85 : decode cX6_placeIs 85 = .ok (.aload_n 0, 1) := dk_42 (dk_at dksX6_placeIs_3 5 rfl rfl)
theorem dX6_placeIs_86 : decode cX6_placeIs 86 = .ok (.iload 4, 2) := dk_21 4 (dk_at dksX6_placeIs_3 6 rfl rfl)
theorem dX6_placeIs_88 : decode cX6_placeIs 88 = .ok (.invokevirtual 334, 3) := dk_182 1 78 (dk_at dksX6_placeIs_3 8 rfl rfl)
theorem dX6_placeIs_91 : decode cX6_placeIs 91 = .ok (.ireturn, 1) := dk_172 (dk_at dksX6_placeIs_3 11 rfl rfl)
theorem dX6_placeIs_92 : decode cX6_placeIs 92 = .ok (.aload_n 0, 1) := dk_42 (dk_at dksX6_placeIs_3 12 rfl rfl)
theorem dX6_placeIs_93 : decode cX6_placeIs 93 = .ok (.iload 4, 2) := dk_21 4 (dk_at dksX6_placeIs_3 13 rfl rfl)
theorem dX6_placeIs_95 : decode cX6_placeIs 95 = .ok (.invokevirtual 287, 3) := dk_182 1 31 (dk_at dksX6_placeIs_3 15 rfl rfl)
theorem dX6_placeIs_98 : decode cX6_placeIs 98 = .ok (.ireturn, 1) := dk_172 (dk_at dksX6_placeIs_3 18 rfl rfl)
theorem dX6_placeIs_99 : decode cX6_placeIs 99 = .ok (.aload_n 0, 1) := dk_42 (dk_at dksX6_placeIs_3 19 rfl rfl)
theorem dX6_placeIs_100 : decode cX6_placeIs 100 = .ok (.iload 4, 2) := dk_21 4 (dk_at dksX6_placeIs_3 20 rfl rfl)
theorem dX6_placeIs_102 : decode cX6_placeIs 102 = .ok (.invokevirtual 290, 3) := dk_182 1 34 (dk_at dksX6_placeIs_4 0 rfl rfl)
theorem dX6_placeIs_105 : decode cX6_placeIs 105 = .ok (.ireturn, 1) := dk_172 (dk_at dksX6_placeIs_4 3 rfl rfl)
theorem dX6_placeIs_106 : decode cX6_placeIs 106 = .ok (.iconst (-1), 1) := dk_2 (dk_at dksX6_placeIs_4 4 rfl rfl)
theorem dX6_placeIs_107 : decode cX6_placeIs 107 = .ok (.ireturn, 1) := dk_172 (dk_at dksX6_placeIs_4 5 rfl rfl)
abbrev cX6_thingsAt : ByteArray := prog_20_method_72_code
def yX6_thingsAt : MethodName := ⟨RX6, "thingsAt", "(I)I"⟩
def dkwX6_thingsAt_1 : List UInt8 := [61, 132, 3, 1, 167, 255, 232, 28, 172]
abbrev dktX6_thingsAt_1 : List UInt8 := dkwX6_thingsAt_1 ++ []
def dkwX6_thingsAt_0 : List UInt8 := [3, 61, 3, 62, 29, 16, 24, 162, 0, 24, 42, 29, 27, 182, 1, 22, 153, 0, 9, 28, 4, 29, 120, 128]
abbrev dktX6_thingsAt_0 : List UInt8 := dkwX6_thingsAt_0 ++ dktX6_thingsAt_1
theorem dksX6_thingsAt_0 : cX6_thingsAt.data.toList.drop 0 = dktX6_thingsAt_0 := by decide +kernel
theorem dksX6_thingsAt_1 : cX6_thingsAt.data.toList.drop 24 = dktX6_thingsAt_1 := dk_seg dksX6_thingsAt_0 24 rfl rfl
theorem dX6_thingsAt_0 : decode cX6_thingsAt 0 = .ok (.iconst 0, 1) := dk_3 (dk_at dksX6_thingsAt_0 0 rfl rfl)
theorem dX6_thingsAt_1 : decode cX6_thingsAt 1 = .ok (.istore_n 2, 1) := dk_61 (dk_at dksX6_thingsAt_0 1 rfl rfl)
theorem dX6_thingsAt_2 : decode cX6_thingsAt 2 = .ok (.iconst 0, 1) := dk_3 (dk_at dksX6_thingsAt_0 2 rfl rfl)
theorem dX6_thingsAt_3 : decode cX6_thingsAt 3 = .ok (.istore_n 3, 1) := dk_62 (dk_at dksX6_thingsAt_0 3 rfl rfl)
theorem dX6_thingsAt_4 : decode cX6_thingsAt 4 = .ok (.iload_n 3, 1) := dk_29 (dk_at dksX6_thingsAt_0 4 rfl rfl)
theorem dX6_thingsAt_5 : decode cX6_thingsAt 5 = .ok (.bipush 24, 2) := dk_16 24 (dk_at dksX6_thingsAt_0 5 rfl rfl)
theorem dX6_thingsAt_7 : decode cX6_thingsAt 7 = .ok (.if_icmp .ge 24, 3) := dk_162 0 24 (dk_at dksX6_thingsAt_0 7 rfl rfl)
theorem dX6_thingsAt_10 : decode cX6_thingsAt 10 = .ok (.aload_n 0, 1) := dk_42 (dk_at dksX6_thingsAt_0 10 rfl rfl)
theorem dX6_thingsAt_11 : decode cX6_thingsAt 11 = .ok (.iload_n 3, 1) := dk_29 (dk_at dksX6_thingsAt_0 11 rfl rfl)
theorem dX6_thingsAt_12 : decode cX6_thingsAt 12 = .ok (.iload_n 1, 1) := dk_27 (dk_at dksX6_thingsAt_0 12 rfl rfl)
theorem dX6_thingsAt_13 : decode cX6_thingsAt 13 = .ok (.invokevirtual 278, 3) := dk_182 1 22 (dk_at dksX6_thingsAt_0 13 rfl rfl)
theorem dX6_thingsAt_16 : decode cX6_thingsAt 16 = .ok (.ifCond .eq 9, 3) := dk_153 0 9 (dk_at dksX6_thingsAt_0 16 rfl rfl)
theorem dX6_thingsAt_19 : decode cX6_thingsAt 19 = .ok (.iload_n 2, 1) := dk_28 (dk_at dksX6_thingsAt_0 19 rfl rfl)
theorem dX6_thingsAt_20 : decode cX6_thingsAt 20 = .ok (.iconst 1, 1) := dk_4 (dk_at dksX6_thingsAt_0 20 rfl rfl)
theorem dX6_thingsAt_21 : decode cX6_thingsAt 21 = .ok (.iload_n 3, 1) := dk_29 (dk_at dksX6_thingsAt_0 21 rfl rfl)
theorem dX6_thingsAt_22 : decode cX6_thingsAt 22 = .ok (.ishl, 1) := dk_120 (dk_at dksX6_thingsAt_0 22 rfl rfl)
theorem dX6_thingsAt_23 : decode cX6_thingsAt 23 = .ok (.ior, 1) := dk_128 (dk_at dksX6_thingsAt_0 23 rfl rfl)
theorem dX6_thingsAt_24 : decode cX6_thingsAt 24 = .ok (.istore_n 2, 1) := dk_61 (dk_at dksX6_thingsAt_1 0 rfl rfl)
theorem dX6_thingsAt_25 : decode cX6_thingsAt 25 = .ok (.iinc 3 1, 3) := dk_132 3 1 (dk_at dksX6_thingsAt_1 1 rfl rfl)
theorem dX6_thingsAt_28 : decode cX6_thingsAt 28 = .ok (.goto (-24), 3) := dk_167 255 232 (dk_at dksX6_thingsAt_1 4 rfl rfl)
theorem dX6_thingsAt_31 : decode cX6_thingsAt 31 = .ok (.iload_n 2, 1) := dk_28 (dk_at dksX6_thingsAt_1 7 rfl rfl)
theorem dX6_thingsAt_32 : decode cX6_thingsAt 32 = .ok (.ireturn, 1) := dk_172 (dk_at dksX6_thingsAt_1 8 rfl rfl)
abbrev cX6_thingIs : ByteArray := prog_20_method_74_code
def yX6_thingIs : MethodName := ⟨RX6, "thingIs", "(II)I"⟩
def dkwX6_thingIs_4 : List UInt8 := [96, 46, 172, 21, 4, 29, 161, 0, 7, 29, 167, 0, 10, 21, 4, 21, 4, 104, 29, 108, 172, 2, 172]
abbrev dktX6_thingIs_4 : List UInt8 := dkwX6_thingIs_4 ++ []
def dkwX6_thingIs_3 : List UInt8 := [42, 180, 0, 7, 17, 0, 216, 27, 96, 46, 172, 29, 172, 21, 4, 172, 42, 180, 0, 7, 17, 1, 32, 27]
abbrev dktX6_thingIs_3 : List UInt8 := dkwX6_thingIs_3 ++ dktX6_thingIs_4
def dkwX6_thingIs_2 : List UInt8 := [170, 0, 0, 0, 0, 79, 0, 0, 0, 0, 0, 0, 0, 4, 0, 0, 0, 34, 0, 0, 0, 45, 0, 0, 0, 47, 0, 0, 0, 50, 0, 0, 0, 61]
abbrev dktX6_thingIs_2 : List UInt8 := dkwX6_thingIs_2 ++ dktX6_thingIs_3
def dkwX6_thingIs_1 : List UInt8 := [180, 0, 7, 17, 1, 8, 27, 96, 46, 54, 4, 28]
abbrev dktX6_thingIs_1 : List UInt8 := dkwX6_thingIs_1 ++ dktX6_thingIs_2
def dkwX6_thingIs_0 : List UInt8 := [42, 27, 182, 0, 114, 154, 0, 5, 2, 172, 42, 180, 0, 7, 17, 0, 240, 27, 96, 46, 62, 42]
abbrev dktX6_thingIs_0 : List UInt8 := dkwX6_thingIs_0 ++ dktX6_thingIs_1
theorem dksX6_thingIs_0 : cX6_thingIs.data.toList.drop 0 = dktX6_thingIs_0 := by decide +kernel
theorem dksX6_thingIs_1 : cX6_thingIs.data.toList.drop 22 = dktX6_thingIs_1 := dk_seg dksX6_thingIs_0 22 rfl rfl
theorem dksX6_thingIs_2 : cX6_thingIs.data.toList.drop 34 = dktX6_thingIs_2 := dk_seg dksX6_thingIs_1 12 rfl rfl
theorem dksX6_thingIs_3 : cX6_thingIs.data.toList.drop 68 = dktX6_thingIs_3 := dk_seg dksX6_thingIs_2 34 rfl rfl
theorem dksX6_thingIs_4 : cX6_thingIs.data.toList.drop 92 = dktX6_thingIs_4 := dk_seg dksX6_thingIs_3 24 rfl rfl
theorem dX6_thingIs_0 : decode cX6_thingIs 0 = .ok (.aload_n 0, 1) := dk_42 (dk_at dksX6_thingIs_0 0 rfl rfl)
theorem dX6_thingIs_1 : decode cX6_thingIs 1 = .ok (.iload_n 1, 1) := dk_27 (dk_at dksX6_thingIs_0 1 rfl rfl)
theorem dX6_thingIs_2 : decode cX6_thingIs 2 = .ok (.invokevirtual 114, 3) := dk_182 0 114 (dk_at dksX6_thingIs_0 2 rfl rfl)
theorem dX6_thingIs_5 : decode cX6_thingIs 5 = .ok (.ifCond .ne 5, 3) := dk_154 0 5 (dk_at dksX6_thingIs_0 5 rfl rfl)
theorem dX6_thingIs_8 : decode cX6_thingIs 8 = .ok (.iconst (-1), 1) := dk_2 (dk_at dksX6_thingIs_0 8 rfl rfl)
theorem dX6_thingIs_9 : decode cX6_thingIs 9 = .ok (.ireturn, 1) := dk_172 (dk_at dksX6_thingIs_0 9 rfl rfl)
theorem dX6_thingIs_10 : decode cX6_thingIs 10 = .ok (.aload_n 0, 1) := dk_42 (dk_at dksX6_thingIs_0 10 rfl rfl)
theorem dX6_thingIs_11 : decode cX6_thingIs 11 = .ok (.getfield 7, 3) := dk_180 0 7 (dk_at dksX6_thingIs_0 11 rfl rfl)
theorem dX6_thingIs_14 : decode cX6_thingIs 14 = .ok (.sipush 240, 3) := dk_17 0 240 (dk_at dksX6_thingIs_0 14 rfl rfl)
theorem dX6_thingIs_17 : decode cX6_thingIs 17 = .ok (.iload_n 1, 1) := dk_27 (dk_at dksX6_thingIs_0 17 rfl rfl)
theorem dX6_thingIs_18 : decode cX6_thingIs 18 = .ok (.iadd, 1) := dk_96 (dk_at dksX6_thingIs_0 18 rfl rfl)
theorem dX6_thingIs_19 : decode cX6_thingIs 19 = .ok (.iaload, 1) := dk_46 (dk_at dksX6_thingIs_0 19 rfl rfl)
theorem dX6_thingIs_20 : decode cX6_thingIs 20 = .ok (.istore_n 3, 1) := dk_62 (dk_at dksX6_thingIs_0 20 rfl rfl)
theorem dX6_thingIs_21 : decode cX6_thingIs 21 = .ok (.aload_n 0, 1) := dk_42 (dk_at dksX6_thingIs_0 21 rfl rfl)
theorem dX6_thingIs_22 : decode cX6_thingIs 22 = .ok (.getfield 7, 3) := dk_180 0 7 (dk_at dksX6_thingIs_1 0 rfl rfl)
theorem dX6_thingIs_25 : decode cX6_thingIs 25 = .ok (.sipush 264, 3) := dk_17 1 8 (dk_at dksX6_thingIs_1 3 rfl rfl)
theorem dX6_thingIs_28 : decode cX6_thingIs 28 = .ok (.iload_n 1, 1) := dk_27 (dk_at dksX6_thingIs_1 6 rfl rfl)
theorem dX6_thingIs_29 : decode cX6_thingIs 29 = .ok (.iadd, 1) := dk_96 (dk_at dksX6_thingIs_1 7 rfl rfl)
theorem dX6_thingIs_30 : decode cX6_thingIs 30 = .ok (.iaload, 1) := dk_46 (dk_at dksX6_thingIs_1 8 rfl rfl)
theorem dX6_thingIs_31 : decode cX6_thingIs 31 = .ok (.istore 4, 2) := dk_54 4 (dk_at dksX6_thingIs_1 9 rfl rfl)
theorem dX6_thingIs_33 : decode cX6_thingIs 33 = .ok (.iload_n 2, 1) := dk_28 (dk_at dksX6_thingIs_1 11 rfl rfl)
theorem dX6_thingIs_34 : decode cX6_thingIs 34 = .ok (.tableswitch 79 0 4 #[34, 45, 47, 50, 61], 34) := by decide +kernel
theorem dX6_thingIs_68 : decode cX6_thingIs 68 = .ok (.aload_n 0, 1) := dk_42 (dk_at dksX6_thingIs_3 0 rfl rfl)
theorem dX6_thingIs_69 : decode cX6_thingIs 69 = .ok (.getfield 7, 3) := dk_180 0 7 (dk_at dksX6_thingIs_3 1 rfl rfl)
theorem dX6_thingIs_72 : decode cX6_thingIs 72 = .ok (.sipush 216, 3) := dk_17 0 216 (dk_at dksX6_thingIs_3 4 rfl rfl)
theorem dX6_thingIs_75 : decode cX6_thingIs 75 = .ok (.iload_n 1, 1) := dk_27 (dk_at dksX6_thingIs_3 7 rfl rfl)
theorem dX6_thingIs_76 : decode cX6_thingIs 76 = .ok (.iadd, 1) := dk_96 (dk_at dksX6_thingIs_3 8 rfl rfl)
theorem dX6_thingIs_77 : decode cX6_thingIs 77 = .ok (.iaload, 1) := dk_46 (dk_at dksX6_thingIs_3 9 rfl rfl)
theorem dX6_thingIs_78 : decode cX6_thingIs 78 = .ok (.ireturn, 1) := dk_172 (dk_at dksX6_thingIs_3 10 rfl rfl)
theorem dX6_thingIs_79 : decode cX6_thingIs 79 = .ok (.iload_n 3, 1) := dk_29 (dk_at dksX6_thingIs_3 11 rfl rfl)
theorem dX6_thingIs_80 : decode cX6_thingIs 80 = .ok (.ireturn, 1) := dk_172 (dk_at dksX6_thingIs_3 12 rfl rfl)
theorem dX6_thingIs_81 : decode cX6_thingIs 81 = .ok (.iload 4, 2) := dk_21 4 (dk_at dksX6_thingIs_3 13 rfl rfl)
theorem dX6_thingIs_83 : decode cX6_thingIs 83 = .ok (.ireturn, 1) := dk_172 (dk_at dksX6_thingIs_3 15 rfl rfl)
theorem dX6_thingIs_84 : decode cX6_thingIs 84 = .ok (.aload_n 0, 1) := dk_42 (dk_at dksX6_thingIs_3 16 rfl rfl)
theorem dX6_thingIs_85 : decode cX6_thingIs 85 = .ok (.getfield 7, 3) := dk_180 0 7 (dk_at dksX6_thingIs_3 17 rfl rfl)
theorem dX6_thingIs_88 : decode cX6_thingIs 88 = .ok (.sipush 288, 3) := dk_17 1 32 (dk_at dksX6_thingIs_3 20 rfl rfl)
theorem dX6_thingIs_91 : decode cX6_thingIs 91 = .ok (.iload_n 1, 1) := dk_27 (dk_at dksX6_thingIs_3 23 rfl rfl)
theorem dX6_thingIs_92 : decode cX6_thingIs 92 = .ok (.iadd, 1) := dk_96 (dk_at dksX6_thingIs_4 0 rfl rfl)
theorem dX6_thingIs_93 : decode cX6_thingIs 93 = .ok (.iaload, 1) := dk_46 (dk_at dksX6_thingIs_4 1 rfl rfl)
theorem dX6_thingIs_94 : decode cX6_thingIs 94 = .ok (.ireturn, 1) := dk_172 (dk_at dksX6_thingIs_4 2 rfl rfl)
theorem dX6_thingIs_95 : decode cX6_thingIs 95 = .ok (.iload 4, 2) := dk_21 4 (dk_at dksX6_thingIs_4 3 rfl rfl)
theorem dX6_thingIs_97 : decode cX6_thingIs 97 = .ok (.iload_n 3, 1) := dk_29 (dk_at dksX6_thingIs_4 5 rfl rfl)
theorem dX6_thingIs_98 : decode cX6_thingIs 98 = .ok (.if_icmp .lt 7, 3) := dk_161 0 7 (dk_at dksX6_thingIs_4 6 rfl rfl)
theorem dX6_thingIs_101 : decode cX6_thingIs 101 = .ok (.iload_n 3, 1) := dk_29 (dk_at dksX6_thingIs_4 9 rfl rfl)
theorem dX6_thingIs_102 : decode cX6_thingIs 102 = .ok (.goto 10, 3) := dk_167 0 10 (dk_at dksX6_thingIs_4 10 rfl rfl)
theorem dX6_thingIs_105 : decode cX6_thingIs 105 = .ok (.iload 4, 2) := dk_21 4 (dk_at dksX6_thingIs_4 13 rfl rfl)
theorem dX6_thingIs_107 : decode cX6_thingIs 107 = .ok (.iload 4, 2) := dk_21 4 (dk_at dksX6_thingIs_4 15 rfl rfl)
theorem dX6_thingIs_109 : decode cX6_thingIs 109 = .ok (.imul, 1) := dk_104 (dk_at dksX6_thingIs_4 17 rfl rfl)
theorem dX6_thingIs_110 : decode cX6_thingIs 110 = .ok (.iload_n 3, 1) := dk_29 (dk_at dksX6_thingIs_4 18 rfl rfl)
theorem dX6_thingIs_111 : decode cX6_thingIs 111 = .ok (.idiv, 1) := dk_108 (dk_at dksX6_thingIs_4 19 rfl rfl)
theorem dX6_thingIs_112 : decode cX6_thingIs 112 = .ok (.ireturn, 1) := dk_172 (dk_at dksX6_thingIs_4 20 rfl rfl)
theorem dX6_thingIs_113 : decode cX6_thingIs 113 = .ok (.iconst (-1), 1) := dk_2 (dk_at dksX6_thingIs_4 21 rfl rfl)
theorem dX6_thingIs_114 : decode cX6_thingIs 114 = .ok (.ireturn, 1) := dk_172 (dk_at dksX6_thingIs_4 22 rfl rfl)
abbrev cX6_comes : ByteArray := prog_20_method_75_code
def yX6_comes : MethodName := ⟨RX6, "comes", "(III)I"⟩
def dkwX6_comes_5 : List UInt8 := [153, 0, 8, 21, 5, 167, 0, 5, 16, 254, 172]
abbrev dktX6_comes_5 : List UInt8 := dkwX6_comes_5 ++ []
def dkwX6_comes_4 : List UInt8 := [46, 153, 0, 7, 4, 167, 0, 4, 3, 54, 6, 42, 180, 0, 13, 42, 180, 0, 7, 184, 1, 15, 21, 6]
abbrev dktX6_comes_4 : List UInt8 := dkwX6_comes_4 ++ dktX6_comes_5
def dkwX6_comes_3 : List UInt8 := [162, 0, 16, 42, 182, 1, 63, 21, 5, 4, 96, 54, 5, 167, 255, 214, 42, 180, 0, 7, 3, 21, 4, 96]
abbrev dktX6_comes_3 : List UInt8 := dkwX6_comes_3 ++ dktX6_comes_4
def dkwX6_comes_2 : List UInt8 := [21, 4, 96, 46, 154, 0, 36, 21, 5, 29, 162, 0, 30, 42, 180, 0, 7, 17, 1, 57, 46, 17, 39, 15]
abbrev dktX6_comes_2 : List UInt8 := dkwX6_comes_2 ++ dktX6_comes_3
def dkwX6_comes_1 : List UInt8 := [42, 180, 0, 13, 184, 1, 15, 16, 12, 28, 104, 27, 96, 54, 4, 3, 54, 5, 42, 180, 0, 7, 3]
abbrev dktX6_comes_1 : List UInt8 := dkwX6_comes_1 ++ dktX6_comes_2
def dkwX6_comes_0 : List UInt8 := [27, 28, 184, 0, 106, 153, 0, 13, 29, 4, 16, 100, 184, 0, 102, 154, 0, 5, 2, 172, 42, 180, 0, 7]
abbrev dktX6_comes_0 : List UInt8 := dkwX6_comes_0 ++ dktX6_comes_1
theorem dksX6_comes_0 : cX6_comes.data.toList.drop 0 = dktX6_comes_0 := by decide +kernel
theorem dksX6_comes_1 : cX6_comes.data.toList.drop 24 = dktX6_comes_1 := dk_seg dksX6_comes_0 24 rfl rfl
theorem dksX6_comes_2 : cX6_comes.data.toList.drop 47 = dktX6_comes_2 := dk_seg dksX6_comes_1 23 rfl rfl
theorem dksX6_comes_3 : cX6_comes.data.toList.drop 71 = dktX6_comes_3 := dk_seg dksX6_comes_2 24 rfl rfl
theorem dksX6_comes_4 : cX6_comes.data.toList.drop 95 = dktX6_comes_4 := dk_seg dksX6_comes_3 24 rfl rfl
theorem dksX6_comes_5 : cX6_comes.data.toList.drop 119 = dktX6_comes_5 := dk_seg dksX6_comes_4 24 rfl rfl
theorem dX6_comes_0 : decode cX6_comes 0 = .ok (.iload_n 1, 1) := dk_27 (dk_at dksX6_comes_0 0 rfl rfl)
theorem dX6_comes_1 : decode cX6_comes 1 = .ok (.iload_n 2, 1) := dk_28 (dk_at dksX6_comes_0 1 rfl rfl)
theorem dX6_comes_2 : decode cX6_comes 2 = .ok (.invokestatic 106, 3) := dk_184 0 106 (dk_at dksX6_comes_0 2 rfl rfl)
theorem dX6_comes_5 : decode cX6_comes 5 = .ok (.ifCond .eq 13, 3) := dk_153 0 13 (dk_at dksX6_comes_0 5 rfl rfl)
theorem dX6_comes_8 : decode cX6_comes 8 = .ok (.iload_n 3, 1) := dk_29 (dk_at dksX6_comes_0 8 rfl rfl)
theorem dX6_comes_9 : decode cX6_comes 9 = .ok (.iconst 1, 1) := dk_4 (dk_at dksX6_comes_0 9 rfl rfl)
theorem dX6_comes_10 : decode cX6_comes 10 = .ok (.bipush 100, 2) := dk_16 100 (dk_at dksX6_comes_0 10 rfl rfl)
theorem dX6_comes_12 : decode cX6_comes 12 = .ok (.invokestatic 102, 3) := dk_184 0 102 (dk_at dksX6_comes_0 12 rfl rfl)
theorem dX6_comes_15 : decode cX6_comes 15 = .ok (.ifCond .ne 5, 3) := dk_154 0 5 (dk_at dksX6_comes_0 15 rfl rfl)
theorem dX6_comes_18 : decode cX6_comes 18 = .ok (.iconst (-1), 1) := dk_2 (dk_at dksX6_comes_0 18 rfl rfl)
theorem dX6_comes_19 : decode cX6_comes 19 = .ok (.ireturn, 1) := dk_172 (dk_at dksX6_comes_0 19 rfl rfl)
theorem dX6_comes_20 : decode cX6_comes 20 = .ok (.aload_n 0, 1) := dk_42 (dk_at dksX6_comes_0 20 rfl rfl)
theorem dX6_comes_21 : decode cX6_comes 21 = .ok (.getfield 7, 3) := dk_180 0 7 (dk_at dksX6_comes_0 21 rfl rfl)
theorem dX6_comes_24 : decode cX6_comes 24 = .ok (.aload_n 0, 1) := dk_42 (dk_at dksX6_comes_1 0 rfl rfl)
theorem dX6_comes_25 : decode cX6_comes 25 = .ok (.getfield 13, 3) := dk_180 0 13 (dk_at dksX6_comes_1 1 rfl rfl)
theorem dX6_comes_28 : decode cX6_comes 28 = .ok (.invokestatic 271, 3) := dk_184 1 15 (dk_at dksX6_comes_1 4 rfl rfl)
theorem dX6_comes_31 : decode cX6_comes 31 = .ok (.bipush 12, 2) := dk_16 12 (dk_at dksX6_comes_1 7 rfl rfl)
theorem dX6_comes_33 : decode cX6_comes 33 = .ok (.iload_n 2, 1) := dk_28 (dk_at dksX6_comes_1 9 rfl rfl)
theorem dX6_comes_34 : decode cX6_comes 34 = .ok (.imul, 1) := dk_104 (dk_at dksX6_comes_1 10 rfl rfl)
theorem dX6_comes_35 : decode cX6_comes 35 = .ok (.iload_n 1, 1) := dk_27 (dk_at dksX6_comes_1 11 rfl rfl)
theorem dX6_comes_36 : decode cX6_comes 36 = .ok (.iadd, 1) := dk_96 (dk_at dksX6_comes_1 12 rfl rfl)
theorem dX6_comes_37 : decode cX6_comes 37 = .ok (.istore 4, 2) := dk_54 4 (dk_at dksX6_comes_1 13 rfl rfl)
theorem dX6_comes_39 : decode cX6_comes 39 = .ok (.iconst 0, 1) := dk_3 (dk_at dksX6_comes_1 15 rfl rfl)
theorem dX6_comes_40 : decode cX6_comes 40 = .ok (.istore 5, 2) := dk_54 5 (dk_at dksX6_comes_1 16 rfl rfl)
theorem dX6_comes_42 : decode cX6_comes 42 = .ok (.aload_n 0, 1) := dk_42 (dk_at dksX6_comes_1 18 rfl rfl)
theorem dX6_comes_43 : decode cX6_comes 43 = .ok (.getfield 7, 3) := dk_180 0 7 (dk_at dksX6_comes_1 19 rfl rfl)
theorem dX6_comes_46 : decode cX6_comes 46 = .ok (.iconst 0, 1) := dk_3 (dk_at dksX6_comes_1 22 rfl rfl)
theorem dX6_comes_47 : decode cX6_comes 47 = .ok (.iload 4, 2) := dk_21 4 (dk_at dksX6_comes_2 0 rfl rfl)
theorem dX6_comes_49 : decode cX6_comes 49 = .ok (.iadd, 1) := dk_96 (dk_at dksX6_comes_2 2 rfl rfl)
theorem dX6_comes_50 : decode cX6_comes 50 = .ok (.iaload, 1) := dk_46 (dk_at dksX6_comes_2 3 rfl rfl)
theorem dX6_comes_51 : decode cX6_comes 51 = .ok (.ifCond .ne 36, 3) := dk_154 0 36 (dk_at dksX6_comes_2 4 rfl rfl)
theorem dX6_comes_54 : decode cX6_comes 54 = .ok (.iload 5, 2) := dk_21 5 (dk_at dksX6_comes_2 7 rfl rfl)
theorem dX6_comes_56 : decode cX6_comes 56 = .ok (.iload_n 3, 1) := dk_29 (dk_at dksX6_comes_2 9 rfl rfl)
theorem dX6_comes_57 : decode cX6_comes 57 = .ok (.if_icmp .ge 30, 3) := dk_162 0 30 (dk_at dksX6_comes_2 10 rfl rfl)
theorem dX6_comes_60 : decode cX6_comes 60 = .ok (.aload_n 0, 1) := dk_42 (dk_at dksX6_comes_2 13 rfl rfl)
theorem dX6_comes_61 : decode cX6_comes 61 = .ok (.getfield 7, 3) := dk_180 0 7 (dk_at dksX6_comes_2 14 rfl rfl)
theorem dX6_comes_64 : decode cX6_comes 64 = .ok (.sipush 313, 3) := dk_17 1 57 (dk_at dksX6_comes_2 17 rfl rfl)
theorem dX6_comes_67 : decode cX6_comes 67 = .ok (.iaload, 1) := dk_46 (dk_at dksX6_comes_2 20 rfl rfl)
theorem dX6_comes_68 : decode cX6_comes 68 = .ok (.sipush 9999, 3) := dk_17 39 15 (dk_at dksX6_comes_2 21 rfl rfl)
theorem dX6_comes_71 : decode cX6_comes 71 = .ok (.if_icmp .ge 16, 3) := dk_162 0 16 (dk_at dksX6_comes_3 0 rfl rfl)
theorem dX6_comes_74 : decode cX6_comes 74 = .ok (.aload_n 0, 1) := dk_42 (dk_at dksX6_comes_3 3 rfl rfl)
theorem dX6_comes_75 : decode cX6_comes 75 = .ok (.invokevirtual 319, 3) := dk_182 1 63 (dk_at dksX6_comes_3 4 rfl rfl)
theorem dX6_comes_78 : decode cX6_comes 78 = .ok (.iload 5, 2) := dk_21 5 (dk_at dksX6_comes_3 7 rfl rfl)
theorem dX6_comes_80 : decode cX6_comes 80 = .ok (.iconst 1, 1) := dk_4 (dk_at dksX6_comes_3 9 rfl rfl)
theorem dX6_comes_81 : decode cX6_comes 81 = .ok (.iadd, 1) := dk_96 (dk_at dksX6_comes_3 10 rfl rfl)
theorem dX6_comes_82 : decode cX6_comes 82 = .ok (.istore 5, 2) := dk_54 5 (dk_at dksX6_comes_3 11 rfl rfl)
theorem dX6_comes_84 : decode cX6_comes 84 = .ok (.goto (-42), 3) := dk_167 255 214 (dk_at dksX6_comes_3 13 rfl rfl)
theorem dX6_comes_87 : decode cX6_comes 87 = .ok (.aload_n 0, 1) := dk_42 (dk_at dksX6_comes_3 16 rfl rfl)
theorem dX6_comes_88 : decode cX6_comes 88 = .ok (.getfield 7, 3) := dk_180 0 7 (dk_at dksX6_comes_3 17 rfl rfl)
theorem dX6_comes_91 : decode cX6_comes 91 = .ok (.iconst 0, 1) := dk_3 (dk_at dksX6_comes_3 20 rfl rfl)
theorem dX6_comes_92 : decode cX6_comes 92 = .ok (.iload 4, 2) := dk_21 4 (dk_at dksX6_comes_3 21 rfl rfl)
theorem dX6_comes_94 : decode cX6_comes 94 = .ok (.iadd, 1) := dk_96 (dk_at dksX6_comes_3 23 rfl rfl)
theorem dX6_comes_95 : decode cX6_comes 95 = .ok (.iaload, 1) := dk_46 (dk_at dksX6_comes_4 0 rfl rfl)
theorem dX6_comes_96 : decode cX6_comes 96 = .ok (.ifCond .eq 7, 3) := dk_153 0 7 (dk_at dksX6_comes_4 1 rfl rfl)
theorem dX6_comes_99 : decode cX6_comes 99 = .ok (.iconst 1, 1) := dk_4 (dk_at dksX6_comes_4 4 rfl rfl)
theorem dX6_comes_100 : decode cX6_comes 100 = .ok (.goto 4, 3) := dk_167 0 4 (dk_at dksX6_comes_4 5 rfl rfl)
theorem dX6_comes_103 : decode cX6_comes 103 = .ok (.iconst 0, 1) := dk_3 (dk_at dksX6_comes_4 8 rfl rfl)
theorem dX6_comes_104 : decode cX6_comes 104 = .ok (.istore 6, 2) := dk_54 6 (dk_at dksX6_comes_4 9 rfl rfl)
theorem dX6_comes_106 : decode cX6_comes 106 = .ok (.aload_n 0, 1) := dk_42 (dk_at dksX6_comes_4 11 rfl rfl)
theorem dX6_comes_107 : decode cX6_comes 107 = .ok (.getfield 13, 3) := dk_180 0 13 (dk_at dksX6_comes_4 12 rfl rfl)
theorem dX6_comes_110 : decode cX6_comes 110 = .ok (.aload_n 0, 1) := dk_42 (dk_at dksX6_comes_4 15 rfl rfl)
theorem dX6_comes_111 : decode cX6_comes 111 = .ok (.getfield 7, 3) := dk_180 0 7 (dk_at dksX6_comes_4 16 rfl rfl)
theorem dX6_comes_114 : decode cX6_comes 114 = .ok (.invokestatic 271, 3) := dk_184 1 15 (dk_at dksX6_comes_4 19 rfl rfl)
theorem dX6_comes_117 : decode cX6_comes 117 = .ok (.iload 6, 2) := dk_21 6 (dk_at dksX6_comes_4 22 rfl rfl)
theorem dX6_comes_119 : decode cX6_comes 119 = .ok (.ifCond .eq 8, 3) := dk_153 0 8 (dk_at dksX6_comes_5 0 rfl rfl)
theorem dX6_comes_122 : decode cX6_comes 122 = .ok (.iload 5, 2) := dk_21 5 (dk_at dksX6_comes_5 3 rfl rfl)
theorem dX6_comes_124 : decode cX6_comes 124 = .ok (.goto 5, 3) := dk_167 0 5 (dk_at dksX6_comes_5 5 rfl rfl)
theorem dX6_comes_127 : decode cX6_comes 127 = .ok (.bipush (-2), 2) := dk_16 254 (dk_at dksX6_comes_5 8 rfl rfl)
theorem dX6_comes_129 : decode cX6_comes 129 = .ok (.ireturn, 1) := dk_172 (dk_at dksX6_comes_5 10 rfl rfl)
abbrev cX6_over : ByteArray := prog_20_method_76_code
def yX6_over : MethodName := ⟨RX6, "over", "(I)I"⟩
def dkwX6_over_4 : List UInt8 := [28, 167, 0, 5, 16, 254, 172]
abbrev dktX6_over_4 : List UInt8 := dkwX6_over_4 ++ []
def dkwX6_over_3 : List UInt8 := [154, 0, 7, 4, 167, 0, 4, 3, 62, 42, 180, 0, 13, 42, 180, 0, 7, 184, 1, 15, 29, 153, 0, 7]
abbrev dktX6_over_3 : List UInt8 := dkwX6_over_3 ++ dktX6_over_4
def dkwX6_over_2 : List UInt8 := [17, 39, 15, 162, 0, 14, 42, 182, 1, 63, 28, 4, 96, 61, 167, 255, 221, 42, 4, 182, 1, 69]
abbrev dktX6_over_2 : List UInt8 := dkwX6_over_2 ++ dktX6_over_3
def dkwX6_over_1 : List UInt8 := [61, 42, 4, 182, 1, 69, 158, 0, 33, 28, 27, 162, 0, 28, 42, 180, 0, 7, 17, 1, 57, 46]
abbrev dktX6_over_1 : List UInt8 := dkwX6_over_1 ++ dktX6_over_2
def dkwX6_over_0 : List UInt8 := [27, 4, 16, 100, 184, 0, 102, 154, 0, 5, 2, 172, 42, 180, 0, 7, 42, 180, 0, 13, 184, 1, 15, 3]
abbrev dktX6_over_0 : List UInt8 := dkwX6_over_0 ++ dktX6_over_1
theorem dksX6_over_0 : cX6_over.data.toList.drop 0 = dktX6_over_0 := by decide +kernel
theorem dksX6_over_1 : cX6_over.data.toList.drop 24 = dktX6_over_1 := dk_seg dksX6_over_0 24 rfl rfl
theorem dksX6_over_2 : cX6_over.data.toList.drop 46 = dktX6_over_2 := dk_seg dksX6_over_1 22 rfl rfl
theorem dksX6_over_3 : cX6_over.data.toList.drop 68 = dktX6_over_3 := dk_seg dksX6_over_2 22 rfl rfl
theorem dksX6_over_4 : cX6_over.data.toList.drop 92 = dktX6_over_4 := dk_seg dksX6_over_3 24 rfl rfl
theorem dX6_over_0 : decode cX6_over 0 = .ok (.iload_n 1, 1) := dk_27 (dk_at dksX6_over_0 0 rfl rfl)
theorem dX6_over_1 : decode cX6_over 1 = .ok (.iconst 1, 1) := dk_4 (dk_at dksX6_over_0 1 rfl rfl)
theorem dX6_over_2 : decode cX6_over 2 = .ok (.bipush 100, 2) := dk_16 100 (dk_at dksX6_over_0 2 rfl rfl)
theorem dX6_over_4 : decode cX6_over 4 = .ok (.invokestatic 102, 3) := dk_184 0 102 (dk_at dksX6_over_0 4 rfl rfl)
theorem dX6_over_7 : decode cX6_over 7 = .ok (.ifCond .ne 5, 3) := dk_154 0 5 (dk_at dksX6_over_0 7 rfl rfl)
theorem dX6_over_10 : decode cX6_over 10 = .ok (.iconst (-1), 1) := dk_2 (dk_at dksX6_over_0 10 rfl rfl)
theorem dX6_over_11 : decode cX6_over 11 = .ok (.ireturn, 1) := dk_172 (dk_at dksX6_over_0 11 rfl rfl)
theorem dX6_over_12 : decode cX6_over 12 = .ok (.aload_n 0, 1) := dk_42 (dk_at dksX6_over_0 12 rfl rfl)
theorem dX6_over_13 : decode cX6_over 13 = .ok (.getfield 7, 3) := dk_180 0 7 (dk_at dksX6_over_0 13 rfl rfl)
theorem dX6_over_16 : decode cX6_over 16 = .ok (.aload_n 0, 1) := dk_42 (dk_at dksX6_over_0 16 rfl rfl)
theorem dX6_over_17 : decode cX6_over 17 = .ok (.getfield 13, 3) := dk_180 0 13 (dk_at dksX6_over_0 17 rfl rfl)
theorem dX6_over_20 : decode cX6_over 20 = .ok (.invokestatic 271, 3) := dk_184 1 15 (dk_at dksX6_over_0 20 rfl rfl)
theorem dX6_over_23 : decode cX6_over 23 = .ok (.iconst 0, 1) := dk_3 (dk_at dksX6_over_0 23 rfl rfl)
theorem dX6_over_24 : decode cX6_over 24 = .ok (.istore_n 2, 1) := dk_61 (dk_at dksX6_over_1 0 rfl rfl)
theorem dX6_over_25 : decode cX6_over 25 = .ok (.aload_n 0, 1) := dk_42 (dk_at dksX6_over_1 1 rfl rfl)
theorem dX6_over_26 : decode cX6_over 26 = .ok (.iconst 1, 1) := dk_4 (dk_at dksX6_over_1 2 rfl rfl)
theorem dX6_over_27 : decode cX6_over 27 = .ok (.invokevirtual 325, 3) := dk_182 1 69 (dk_at dksX6_over_1 3 rfl rfl)
theorem dX6_over_30 : decode cX6_over 30 = .ok (.ifCond .le 33, 3) := dk_158 0 33 (dk_at dksX6_over_1 6 rfl rfl)
theorem dX6_over_33 : decode cX6_over 33 = .ok (.iload_n 2, 1) := dk_28 (dk_at dksX6_over_1 9 rfl rfl)
theorem dX6_over_34 : decode cX6_over 34 = .ok (.iload_n 1, 1) := dk_27 (dk_at dksX6_over_1 10 rfl rfl)
theorem dX6_over_35 : decode cX6_over 35 = .ok (.if_icmp .ge 28, 3) := dk_162 0 28 (dk_at dksX6_over_1 11 rfl rfl)
theorem dX6_over_38 : decode cX6_over 38 = .ok (.aload_n 0, 1) := dk_42 (dk_at dksX6_over_1 14 rfl rfl)
theorem dX6_over_39 : decode cX6_over 39 = .ok (.getfield 7, 3) := dk_180 0 7 (dk_at dksX6_over_1 15 rfl rfl)
theorem dX6_over_42 : decode cX6_over 42 = .ok (.sipush 313, 3) := dk_17 1 57 (dk_at dksX6_over_1 18 rfl rfl)
theorem dX6_over_45 : decode cX6_over 45 = .ok (.iaload, 1) := dk_46 (dk_at dksX6_over_1 21 rfl rfl)
theorem dX6_over_46 : decode cX6_over 46 = .ok (.sipush 9999, 3) := dk_17 39 15 (dk_at dksX6_over_2 0 rfl rfl)
theorem dX6_over_49 : decode cX6_over 49 = .ok (.if_icmp .ge 14, 3) := dk_162 0 14 (dk_at dksX6_over_2 3 rfl rfl)
theorem dX6_over_52 : decode cX6_over 52 = .ok (.aload_n 0, 1) := dk_42 (dk_at dksX6_over_2 6 rfl rfl)
theorem dX6_over_53 : decode cX6_over 53 = .ok (.invokevirtual 319, 3) := dk_182 1 63 (dk_at dksX6_over_2 7 rfl rfl)
theorem dX6_over_56 : decode cX6_over 56 = .ok (.iload_n 2, 1) := dk_28 (dk_at dksX6_over_2 10 rfl rfl)
theorem dX6_over_57 : decode cX6_over 57 = .ok (.iconst 1, 1) := dk_4 (dk_at dksX6_over_2 11 rfl rfl)
theorem dX6_over_58 : decode cX6_over 58 = .ok (.iadd, 1) := dk_96 (dk_at dksX6_over_2 12 rfl rfl)
theorem dX6_over_59 : decode cX6_over 59 = .ok (.istore_n 2, 1) := dk_61 (dk_at dksX6_over_2 13 rfl rfl)
theorem dX6_over_60 : decode cX6_over 60 = .ok (.goto (-35), 3) := dk_167 255 221 (dk_at dksX6_over_2 14 rfl rfl)
theorem dX6_over_63 : decode cX6_over 63 = .ok (.aload_n 0, 1) := dk_42 (dk_at dksX6_over_2 17 rfl rfl)
theorem dX6_over_64 : decode cX6_over 64 = .ok (.iconst 1, 1) := dk_4 (dk_at dksX6_over_2 18 rfl rfl)
theorem dX6_over_65 : decode cX6_over 65 = .ok (.invokevirtual 325, 3) := dk_182 1 69 (dk_at dksX6_over_2 19 rfl rfl)
theorem dX6_over_68 : decode cX6_over 68 = .ok (.ifCond .ne 7, 3) := dk_154 0 7 (dk_at dksX6_over_3 0 rfl rfl)
theorem dX6_over_71 : decode cX6_over 71 = .ok (.iconst 1, 1) := dk_4 (dk_at dksX6_over_3 3 rfl rfl)
theorem dX6_over_72 : decode cX6_over 72 = .ok (.goto 4, 3) := dk_167 0 4 (dk_at dksX6_over_3 4 rfl rfl)
theorem dX6_over_75 : decode cX6_over 75 = .ok (.iconst 0, 1) := dk_3 (dk_at dksX6_over_3 7 rfl rfl)
theorem dX6_over_76 : decode cX6_over 76 = .ok (.istore_n 3, 1) := dk_62 (dk_at dksX6_over_3 8 rfl rfl)
theorem dX6_over_77 : decode cX6_over 77 = .ok (.aload_n 0, 1) := dk_42 (dk_at dksX6_over_3 9 rfl rfl)
theorem dX6_over_78 : decode cX6_over 78 = .ok (.getfield 13, 3) := dk_180 0 13 (dk_at dksX6_over_3 10 rfl rfl)
theorem dX6_over_81 : decode cX6_over 81 = .ok (.aload_n 0, 1) := dk_42 (dk_at dksX6_over_3 13 rfl rfl)
theorem dX6_over_82 : decode cX6_over 82 = .ok (.getfield 7, 3) := dk_180 0 7 (dk_at dksX6_over_3 14 rfl rfl)
theorem dX6_over_85 : decode cX6_over 85 = .ok (.invokestatic 271, 3) := dk_184 1 15 (dk_at dksX6_over_3 17 rfl rfl)
theorem dX6_over_88 : decode cX6_over 88 = .ok (.iload_n 3, 1) := dk_29 (dk_at dksX6_over_3 20 rfl rfl)
theorem dX6_over_89 : decode cX6_over 89 = .ok (.ifCond .eq 7, 3) := dk_153 0 7 (dk_at dksX6_over_3 21 rfl rfl)
theorem dX6_over_92 : decode cX6_over 92 = .ok (.iload_n 2, 1) := dk_28 (dk_at dksX6_over_4 0 rfl rfl)
theorem dX6_over_93 : decode cX6_over 93 = .ok (.goto 5, 3) := dk_167 0 5 (dk_at dksX6_over_4 1 rfl rfl)
theorem dX6_over_96 : decode cX6_over 96 = .ok (.bipush (-2), 2) := dk_16 254 (dk_at dksX6_over_4 4 rfl rfl)
theorem dX6_over_98 : decode cX6_over 98 = .ok (.ireturn, 1) := dk_172 (dk_at dksX6_over_4 6 rfl rfl)
abbrev cX6_steps : ByteArray := prog_20_method_81_code
def yX6_steps : MethodName := ⟨RX6, "steps", "(II)I"⟩
def dkwX6_steps_2 : List UInt8 := [160, 0, 8, 16, 254, 167, 0, 9, 42, 180, 0, 75, 28, 46, 172]
abbrev dktX6_steps_2 : List UInt8 := dkwX6_steps_2 ++ []
def dkwX6_steps_1 : List UInt8 := [42, 28, 182, 0, 241, 154, 0, 6, 16, 253, 172, 42, 27, 182, 1, 87, 42, 180, 0, 75, 28, 46, 2]
abbrev dktX6_steps_1 : List UInt8 := dkwX6_steps_1 ++ dktX6_steps_2
def dkwX6_steps_0 : List UInt8 := [27, 184, 0, 110, 153, 0, 10, 28, 184, 0, 110, 154, 0, 5, 2, 172, 42, 27, 182, 0, 241, 153, 0, 11]
abbrev dktX6_steps_0 : List UInt8 := dkwX6_steps_0 ++ dktX6_steps_1
theorem dksX6_steps_0 : cX6_steps.data.toList.drop 0 = dktX6_steps_0 := by decide +kernel
theorem dksX6_steps_1 : cX6_steps.data.toList.drop 24 = dktX6_steps_1 := dk_seg dksX6_steps_0 24 rfl rfl
theorem dksX6_steps_2 : cX6_steps.data.toList.drop 47 = dktX6_steps_2 := dk_seg dksX6_steps_1 23 rfl rfl
theorem dX6_steps_0 : decode cX6_steps 0 = .ok (.iload_n 1, 1) := dk_27 (dk_at dksX6_steps_0 0 rfl rfl)
theorem dX6_steps_1 : decode cX6_steps 1 = .ok (.invokestatic 110, 3) := dk_184 0 110 (dk_at dksX6_steps_0 1 rfl rfl)
theorem dX6_steps_4 : decode cX6_steps 4 = .ok (.ifCond .eq 10, 3) := dk_153 0 10 (dk_at dksX6_steps_0 4 rfl rfl)
theorem dX6_steps_7 : decode cX6_steps 7 = .ok (.iload_n 2, 1) := dk_28 (dk_at dksX6_steps_0 7 rfl rfl)
theorem dX6_steps_8 : decode cX6_steps 8 = .ok (.invokestatic 110, 3) := dk_184 0 110 (dk_at dksX6_steps_0 8 rfl rfl)
theorem dX6_steps_11 : decode cX6_steps 11 = .ok (.ifCond .ne 5, 3) := dk_154 0 5 (dk_at dksX6_steps_0 11 rfl rfl)
theorem dX6_steps_14 : decode cX6_steps 14 = .ok (.iconst (-1), 1) := dk_2 (dk_at dksX6_steps_0 14 rfl rfl)
theorem dX6_steps_15 : decode cX6_steps 15 = .ok (.ireturn, 1) := dk_172 (dk_at dksX6_steps_0 15 rfl rfl)
theorem dX6_steps_16 : decode cX6_steps 16 = .ok (.aload_n 0, 1) := dk_42 (dk_at dksX6_steps_0 16 rfl rfl)
theorem dX6_steps_17 : decode cX6_steps 17 = .ok (.iload_n 1, 1) := dk_27 (dk_at dksX6_steps_0 17 rfl rfl)
theorem dX6_steps_18 : decode cX6_steps 18 = .ok (.invokevirtual 241, 3) := dk_182 0 241 (dk_at dksX6_steps_0 18 rfl rfl)
theorem dX6_steps_21 : decode cX6_steps 21 = .ok (.ifCond .eq 11, 3) := dk_153 0 11 (dk_at dksX6_steps_0 21 rfl rfl)
theorem dX6_steps_24 : decode cX6_steps 24 = .ok (.aload_n 0, 1) := dk_42 (dk_at dksX6_steps_1 0 rfl rfl)
theorem dX6_steps_25 : decode cX6_steps 25 = .ok (.iload_n 2, 1) := dk_28 (dk_at dksX6_steps_1 1 rfl rfl)
theorem dX6_steps_26 : decode cX6_steps 26 = .ok (.invokevirtual 241, 3) := dk_182 0 241 (dk_at dksX6_steps_1 2 rfl rfl)
theorem dX6_steps_29 : decode cX6_steps 29 = .ok (.ifCond .ne 6, 3) := dk_154 0 6 (dk_at dksX6_steps_1 5 rfl rfl)
theorem dX6_steps_32 : decode cX6_steps 32 = .ok (.bipush (-3), 2) := dk_16 253 (dk_at dksX6_steps_1 8 rfl rfl)
theorem dX6_steps_34 : decode cX6_steps 34 = .ok (.ireturn, 1) := dk_172 (dk_at dksX6_steps_1 10 rfl rfl)
theorem dX6_steps_35 : decode cX6_steps 35 = .ok (.aload_n 0, 1) := dk_42 (dk_at dksX6_steps_1 11 rfl rfl)
theorem dX6_steps_36 : decode cX6_steps 36 = .ok (.iload_n 1, 1) := dk_27 (dk_at dksX6_steps_1 12 rfl rfl)
theorem dX6_steps_37 : decode cX6_steps 37 = .ok (.invokevirtual 343, 3) := dk_182 1 87 (dk_at dksX6_steps_1 13 rfl rfl)
theorem dX6_steps_40 : decode cX6_steps 40 = .ok (.aload_n 0, 1) := dk_42 (dk_at dksX6_steps_1 16 rfl rfl)
theorem dX6_steps_41 : decode cX6_steps 41 = .ok (.getfield 75, 3) := dk_180 0 75 (dk_at dksX6_steps_1 17 rfl rfl)
theorem dX6_steps_44 : decode cX6_steps 44 = .ok (.iload_n 2, 1) := dk_28 (dk_at dksX6_steps_1 20 rfl rfl)
theorem dX6_steps_45 : decode cX6_steps 45 = .ok (.iaload, 1) := dk_46 (dk_at dksX6_steps_1 21 rfl rfl)
theorem dX6_steps_46 : decode cX6_steps 46 = .ok (.iconst (-1), 1) := dk_2 (dk_at dksX6_steps_1 22 rfl rfl)
theorem dX6_steps_47 : decode cX6_steps 47 = .ok (.if_icmp .ne 8, 3) := dk_160 0 8 (dk_at dksX6_steps_2 0 rfl rfl)
theorem dX6_steps_50 : decode cX6_steps 50 = .ok (.bipush (-2), 2) := dk_16 254 (dk_at dksX6_steps_2 3 rfl rfl)
theorem dX6_steps_52 : decode cX6_steps 52 = .ok (.goto 9, 3) := dk_167 0 9 (dk_at dksX6_steps_2 5 rfl rfl)
theorem dX6_steps_55 : decode cX6_steps 55 = .ok (.aload_n 0, 1) := dk_42 (dk_at dksX6_steps_2 8 rfl rfl)
theorem dX6_steps_56 : decode cX6_steps 56 = .ok (.getfield 75, 3) := dk_180 0 75 (dk_at dksX6_steps_2 9 rfl rfl)
theorem dX6_steps_59 : decode cX6_steps 59 = .ok (.iload_n 2, 1) := dk_28 (dk_at dksX6_steps_2 12 rfl rfl)
theorem dX6_steps_60 : decode cX6_steps 60 = .ok (.iaload, 1) := dk_46 (dk_at dksX6_steps_2 13 rfl rfl)
theorem dX6_steps_61 : decode cX6_steps 61 = .ok (.ireturn, 1) := dk_172 (dk_at dksX6_steps_2 14 rfl rfl)
abbrev cX6_laysFireFrom : ByteArray := prog_20_method_79_code
def yX6_laysFireFrom : MethodName := ⟨RX6, "laysFireFrom", "(I)V"⟩
def dkwX6_laysFireFrom_0 : List UInt8 := [42, 182, 1, 81, 42, 180, 0, 75, 27, 3, 79, 42, 180, 0, 78, 3, 27, 79, 42, 4, 182, 1, 84, 177]
abbrev dktX6_laysFireFrom_0 : List UInt8 := dkwX6_laysFireFrom_0 ++ []
theorem dksX6_laysFireFrom_0 : cX6_laysFireFrom.data.toList.drop 0 = dktX6_laysFireFrom_0 := by decide +kernel
theorem dX6_laysFireFrom_0 : decode cX6_laysFireFrom 0 = .ok (.aload_n 0, 1) := dk_42 (dk_at dksX6_laysFireFrom_0 0 rfl rfl)
theorem dX6_laysFireFrom_1 : decode cX6_laysFireFrom 1 = .ok (.invokevirtual 337, 3) := dk_182 1 81 (dk_at dksX6_laysFireFrom_0 1 rfl rfl)
theorem dX6_laysFireFrom_4 : decode cX6_laysFireFrom 4 = .ok (.aload_n 0, 1) := dk_42 (dk_at dksX6_laysFireFrom_0 4 rfl rfl)
theorem dX6_laysFireFrom_5 : decode cX6_laysFireFrom 5 = .ok (.getfield 75, 3) := dk_180 0 75 (dk_at dksX6_laysFireFrom_0 5 rfl rfl)
theorem dX6_laysFireFrom_8 : decode cX6_laysFireFrom 8 = .ok (.iload_n 1, 1) := dk_27 (dk_at dksX6_laysFireFrom_0 8 rfl rfl)
theorem dX6_laysFireFrom_9 : decode cX6_laysFireFrom 9 = .ok (.iconst 0, 1) := dk_3 (dk_at dksX6_laysFireFrom_0 9 rfl rfl)
theorem dX6_laysFireFrom_10 : decode cX6_laysFireFrom 10 = .ok (.iastore, 1) := dk_79 (dk_at dksX6_laysFireFrom_0 10 rfl rfl)
theorem dX6_laysFireFrom_11 : decode cX6_laysFireFrom 11 = .ok (.aload_n 0, 1) := dk_42 (dk_at dksX6_laysFireFrom_0 11 rfl rfl)
theorem dX6_laysFireFrom_12 : decode cX6_laysFireFrom 12 = .ok (.getfield 78, 3) := dk_180 0 78 (dk_at dksX6_laysFireFrom_0 12 rfl rfl)
theorem dX6_laysFireFrom_15 : decode cX6_laysFireFrom 15 = .ok (.iconst 0, 1) := dk_3 (dk_at dksX6_laysFireFrom_0 15 rfl rfl)
theorem dX6_laysFireFrom_16 : decode cX6_laysFireFrom 16 = .ok (.iload_n 1, 1) := dk_27 (dk_at dksX6_laysFireFrom_0 16 rfl rfl)
theorem dX6_laysFireFrom_17 : decode cX6_laysFireFrom 17 = .ok (.iastore, 1) := dk_79 (dk_at dksX6_laysFireFrom_0 17 rfl rfl)
theorem dX6_laysFireFrom_18 : decode cX6_laysFireFrom 18 = .ok (.aload_n 0, 1) := dk_42 (dk_at dksX6_laysFireFrom_0 18 rfl rfl)
theorem dX6_laysFireFrom_19 : decode cX6_laysFireFrom 19 = .ok (.iconst 1, 1) := dk_4 (dk_at dksX6_laysFireFrom_0 19 rfl rfl)
theorem dX6_laysFireFrom_20 : decode cX6_laysFireFrom 20 = .ok (.invokevirtual 340, 3) := dk_182 1 84 (dk_at dksX6_laysFireFrom_0 20 rfl rfl)
theorem dX6_laysFireFrom_23 : decode cX6_laysFireFrom 23 = .ok (.return_, 1) := dk_177 (dk_at dksX6_laysFireFrom_0 23 rfl rfl)
abbrev cX6_clearsFire : ByteArray := prog_20_method_78_code
def yX6_clearsFire : MethodName := ⟨RX6, "clearsFire", "()V"⟩
def dkwX6_clearsFire_0 : List UInt8 := [3, 60, 27, 16, 96, 162, 0, 16, 42, 180, 0, 75, 27, 2, 79, 132, 1, 1, 167, 255, 240, 177]
abbrev dktX6_clearsFire_0 : List UInt8 := dkwX6_clearsFire_0 ++ []
theorem dksX6_clearsFire_0 : cX6_clearsFire.data.toList.drop 0 = dktX6_clearsFire_0 := by decide +kernel
theorem dX6_clearsFire_0 : decode cX6_clearsFire 0 = .ok (.iconst 0, 1) := dk_3 (dk_at dksX6_clearsFire_0 0 rfl rfl)
theorem dX6_clearsFire_1 : decode cX6_clearsFire 1 = .ok (.istore_n 1, 1) := dk_60 (dk_at dksX6_clearsFire_0 1 rfl rfl)
theorem dX6_clearsFire_2 : decode cX6_clearsFire 2 = .ok (.iload_n 1, 1) := dk_27 (dk_at dksX6_clearsFire_0 2 rfl rfl)
theorem dX6_clearsFire_3 : decode cX6_clearsFire 3 = .ok (.bipush 96, 2) := dk_16 96 (dk_at dksX6_clearsFire_0 3 rfl rfl)
theorem dX6_clearsFire_5 : decode cX6_clearsFire 5 = .ok (.if_icmp .ge 16, 3) := dk_162 0 16 (dk_at dksX6_clearsFire_0 5 rfl rfl)
theorem dX6_clearsFire_8 : decode cX6_clearsFire 8 = .ok (.aload_n 0, 1) := dk_42 (dk_at dksX6_clearsFire_0 8 rfl rfl)
theorem dX6_clearsFire_9 : decode cX6_clearsFire 9 = .ok (.getfield 75, 3) := dk_180 0 75 (dk_at dksX6_clearsFire_0 9 rfl rfl)
theorem dX6_clearsFire_12 : decode cX6_clearsFire 12 = .ok (.iload_n 1, 1) := dk_27 (dk_at dksX6_clearsFire_0 12 rfl rfl)
theorem dX6_clearsFire_13 : decode cX6_clearsFire 13 = .ok (.iconst (-1), 1) := dk_2 (dk_at dksX6_clearsFire_0 13 rfl rfl)
theorem dX6_clearsFire_14 : decode cX6_clearsFire 14 = .ok (.iastore, 1) := dk_79 (dk_at dksX6_clearsFire_0 14 rfl rfl)
theorem dX6_clearsFire_15 : decode cX6_clearsFire 15 = .ok (.iinc 1 1, 3) := dk_132 1 1 (dk_at dksX6_clearsFire_0 15 rfl rfl)
theorem dX6_clearsFire_18 : decode cX6_clearsFire 18 = .ok (.goto (-16), 3) := dk_167 255 240 (dk_at dksX6_clearsFire_0 18 rfl rfl)
theorem dX6_clearsFire_21 : decode cX6_clearsFire 21 = .ok (.return_, 1) := dk_177 (dk_at dksX6_clearsFire_0 21 rfl rfl)
abbrev cX6_laysFire : ByteArray := prog_20_method_77_code
def yX6_laysFire : MethodName := ⟨RX6, "laysFire", "(I)V"⟩
def dkwX6_laysFire_4 : List UInt8 := [167, 255, 165, 177]
abbrev dktX6_laysFire_4 : List UInt8 := dkwX6_laysFire_4 ++ []
def dkwX6_laysFire_3 : List UInt8 := [96, 79, 42, 180, 0, 78, 28, 21, 5, 79, 28, 4, 96, 61, 132, 4, 1, 167, 255, 179, 132, 3, 1]
abbrev dktX6_laysFire_3 : List UInt8 := dkwX6_laysFire_3 ++ dktX6_laysFire_4
def dkwX6_laysFire_2 : List UInt8 := [159, 0, 6, 167, 0, 35, 42, 180, 0, 75, 21, 5, 42, 180, 0, 75, 42, 180, 0, 78, 29, 46, 46, 4]
abbrev dktX6_laysFire_2 : List UInt8 := dkwX6_laysFire_2 ++ dktX6_laysFire_3
def dkwX6_laysFire_1 : List UInt8 := [21, 4, 184, 1, 25, 54, 5, 42, 21, 5, 182, 0, 241, 153, 0, 49, 42, 180, 0, 75, 21, 5, 46, 2]
abbrev dktX6_laysFire_1 : List UInt8 := dkwX6_laysFire_1 ++ dktX6_laysFire_2
def dkwX6_laysFire_0 : List UInt8 := [27, 61, 3, 62, 29, 28, 162, 0, 92, 3, 54, 4, 21, 4, 7, 162, 0, 77, 42, 180, 0, 78, 29, 46]
abbrev dktX6_laysFire_0 : List UInt8 := dkwX6_laysFire_0 ++ dktX6_laysFire_1
theorem dksX6_laysFire_0 : cX6_laysFire.data.toList.drop 0 = dktX6_laysFire_0 := by decide +kernel
theorem dksX6_laysFire_1 : cX6_laysFire.data.toList.drop 24 = dktX6_laysFire_1 := dk_seg dksX6_laysFire_0 24 rfl rfl
theorem dksX6_laysFire_2 : cX6_laysFire.data.toList.drop 48 = dktX6_laysFire_2 := dk_seg dksX6_laysFire_1 24 rfl rfl
theorem dksX6_laysFire_3 : cX6_laysFire.data.toList.drop 72 = dktX6_laysFire_3 := dk_seg dksX6_laysFire_2 24 rfl rfl
theorem dksX6_laysFire_4 : cX6_laysFire.data.toList.drop 95 = dktX6_laysFire_4 := dk_seg dksX6_laysFire_3 23 rfl rfl
theorem dX6_laysFire_0 : decode cX6_laysFire 0 = .ok (.iload_n 1, 1) := dk_27 (dk_at dksX6_laysFire_0 0 rfl rfl)
theorem dX6_laysFire_1 : decode cX6_laysFire 1 = .ok (.istore_n 2, 1) := dk_61 (dk_at dksX6_laysFire_0 1 rfl rfl)
theorem dX6_laysFire_2 : decode cX6_laysFire 2 = .ok (.iconst 0, 1) := dk_3 (dk_at dksX6_laysFire_0 2 rfl rfl)
theorem dX6_laysFire_3 : decode cX6_laysFire 3 = .ok (.istore_n 3, 1) := dk_62 (dk_at dksX6_laysFire_0 3 rfl rfl)
theorem dX6_laysFire_4 : decode cX6_laysFire 4 = .ok (.iload_n 3, 1) := dk_29 (dk_at dksX6_laysFire_0 4 rfl rfl)
theorem dX6_laysFire_5 : decode cX6_laysFire 5 = .ok (.iload_n 2, 1) := dk_28 (dk_at dksX6_laysFire_0 5 rfl rfl)
theorem dX6_laysFire_6 : decode cX6_laysFire 6 = .ok (.if_icmp .ge 92, 3) := dk_162 0 92 (dk_at dksX6_laysFire_0 6 rfl rfl)
theorem dX6_laysFire_9 : decode cX6_laysFire 9 = .ok (.iconst 0, 1) := dk_3 (dk_at dksX6_laysFire_0 9 rfl rfl)
theorem dX6_laysFire_10 : decode cX6_laysFire 10 = .ok (.istore 4, 2) := dk_54 4 (dk_at dksX6_laysFire_0 10 rfl rfl)
theorem dX6_laysFire_12 : decode cX6_laysFire 12 = .ok (.iload 4, 2) := dk_21 4 (dk_at dksX6_laysFire_0 12 rfl rfl)
theorem dX6_laysFire_14 : decode cX6_laysFire 14 = .ok (.iconst 4, 1) := dk_7 (dk_at dksX6_laysFire_0 14 rfl rfl)
theorem dX6_laysFire_15 : decode cX6_laysFire 15 = .ok (.if_icmp .ge 77, 3) := dk_162 0 77 (dk_at dksX6_laysFire_0 15 rfl rfl)
theorem dX6_laysFire_18 : decode cX6_laysFire 18 = .ok (.aload_n 0, 1) := dk_42 (dk_at dksX6_laysFire_0 18 rfl rfl)
theorem dX6_laysFire_19 : decode cX6_laysFire 19 = .ok (.getfield 78, 3) := dk_180 0 78 (dk_at dksX6_laysFire_0 19 rfl rfl)
theorem dX6_laysFire_22 : decode cX6_laysFire 22 = .ok (.iload_n 3, 1) := dk_29 (dk_at dksX6_laysFire_0 22 rfl rfl)
theorem dX6_laysFire_23 : decode cX6_laysFire 23 = .ok (.iaload, 1) := dk_46 (dk_at dksX6_laysFire_0 23 rfl rfl)
theorem dX6_laysFire_24 : decode cX6_laysFire 24 = .ok (.iload 4, 2) := dk_21 4 (dk_at dksX6_laysFire_1 0 rfl rfl)
theorem dX6_laysFire_26 : decode cX6_laysFire 26 = .ok (.invokestatic 281, 3) := dk_184 1 25 (dk_at dksX6_laysFire_1 2 rfl rfl)
theorem dX6_laysFire_29 : decode cX6_laysFire 29 = .ok (.istore 5, 2) := dk_54 5 (dk_at dksX6_laysFire_1 5 rfl rfl)
theorem dX6_laysFire_31 : decode cX6_laysFire 31 = .ok (.aload_n 0, 1) := dk_42 (dk_at dksX6_laysFire_1 7 rfl rfl)
theorem dX6_laysFire_32 : decode cX6_laysFire 32 = .ok (.iload 5, 2) := dk_21 5 (dk_at dksX6_laysFire_1 8 rfl rfl)
theorem dX6_laysFire_34 : decode cX6_laysFire 34 = .ok (.invokevirtual 241, 3) := dk_182 0 241 (dk_at dksX6_laysFire_1 10 rfl rfl)
theorem dX6_laysFire_37 : decode cX6_laysFire 37 = .ok (.ifCond .eq 49, 3) := dk_153 0 49 (dk_at dksX6_laysFire_1 13 rfl rfl)
theorem dX6_laysFire_40 : decode cX6_laysFire 40 = .ok (.aload_n 0, 1) := dk_42 (dk_at dksX6_laysFire_1 16 rfl rfl)
theorem dX6_laysFire_41 : decode cX6_laysFire 41 = .ok (.getfield 75, 3) := dk_180 0 75 (dk_at dksX6_laysFire_1 17 rfl rfl)
theorem dX6_laysFire_44 : decode cX6_laysFire 44 = .ok (.iload 5, 2) := dk_21 5 (dk_at dksX6_laysFire_1 20 rfl rfl)
theorem dX6_laysFire_46 : decode cX6_laysFire 46 = .ok (.iaload, 1) := dk_46 (dk_at dksX6_laysFire_1 22 rfl rfl)
theorem dX6_laysFire_47 : decode cX6_laysFire 47 = .ok (.iconst (-1), 1) := dk_2 (dk_at dksX6_laysFire_1 23 rfl rfl)
theorem dX6_laysFire_48 : decode cX6_laysFire 48 = .ok (.if_icmp .eq 6, 3) := dk_159 0 6 (dk_at dksX6_laysFire_2 0 rfl rfl)
theorem dX6_laysFire_51 : decode cX6_laysFire 51 = .ok (.goto 35, 3) := dk_167 0 35 (dk_at dksX6_laysFire_2 3 rfl rfl)
theorem dX6_laysFire_54 : decode cX6_laysFire 54 = .ok (.aload_n 0, 1) := dk_42 (dk_at dksX6_laysFire_2 6 rfl rfl)
theorem dX6_laysFire_55 : decode cX6_laysFire 55 = .ok (.getfield 75, 3) := dk_180 0 75 (dk_at dksX6_laysFire_2 7 rfl rfl)
theorem dX6_laysFire_58 : decode cX6_laysFire 58 = .ok (.iload 5, 2) := dk_21 5 (dk_at dksX6_laysFire_2 10 rfl rfl)
theorem dX6_laysFire_60 : decode cX6_laysFire 60 = .ok (.aload_n 0, 1) := dk_42 (dk_at dksX6_laysFire_2 12 rfl rfl)
theorem dX6_laysFire_61 : decode cX6_laysFire 61 = .ok (.getfield 75, 3) := dk_180 0 75 (dk_at dksX6_laysFire_2 13 rfl rfl)
theorem dX6_laysFire_64 : decode cX6_laysFire 64 = .ok (.aload_n 0, 1) := dk_42 (dk_at dksX6_laysFire_2 16 rfl rfl)
theorem dX6_laysFire_65 : decode cX6_laysFire 65 = .ok (.getfield 78, 3) := dk_180 0 78 (dk_at dksX6_laysFire_2 17 rfl rfl)
theorem dX6_laysFire_68 : decode cX6_laysFire 68 = .ok (.iload_n 3, 1) := dk_29 (dk_at dksX6_laysFire_2 20 rfl rfl)
theorem dX6_laysFire_69 : decode cX6_laysFire 69 = .ok (.iaload, 1) := dk_46 (dk_at dksX6_laysFire_2 21 rfl rfl)
theorem dX6_laysFire_70 : decode cX6_laysFire 70 = .ok (.iaload, 1) := dk_46 (dk_at dksX6_laysFire_2 22 rfl rfl)
theorem dX6_laysFire_71 : decode cX6_laysFire 71 = .ok (.iconst 1, 1) := dk_4 (dk_at dksX6_laysFire_2 23 rfl rfl)
theorem dX6_laysFire_72 : decode cX6_laysFire 72 = .ok (.iadd, 1) := dk_96 (dk_at dksX6_laysFire_3 0 rfl rfl)
theorem dX6_laysFire_73 : decode cX6_laysFire 73 = .ok (.iastore, 1) := dk_79 (dk_at dksX6_laysFire_3 1 rfl rfl)
theorem dX6_laysFire_74 : decode cX6_laysFire 74 = .ok (.aload_n 0, 1) := dk_42 (dk_at dksX6_laysFire_3 2 rfl rfl)
theorem dX6_laysFire_75 : decode cX6_laysFire 75 = .ok (.getfield 78, 3) := dk_180 0 78 (dk_at dksX6_laysFire_3 3 rfl rfl)
theorem dX6_laysFire_78 : decode cX6_laysFire 78 = .ok (.iload_n 2, 1) := dk_28 (dk_at dksX6_laysFire_3 6 rfl rfl)
theorem dX6_laysFire_79 : decode cX6_laysFire 79 = .ok (.iload 5, 2) := dk_21 5 (dk_at dksX6_laysFire_3 7 rfl rfl)
theorem dX6_laysFire_81 : decode cX6_laysFire 81 = .ok (.iastore, 1) := dk_79 (dk_at dksX6_laysFire_3 9 rfl rfl)
theorem dX6_laysFire_82 : decode cX6_laysFire 82 = .ok (.iload_n 2, 1) := dk_28 (dk_at dksX6_laysFire_3 10 rfl rfl)
theorem dX6_laysFire_83 : decode cX6_laysFire 83 = .ok (.iconst 1, 1) := dk_4 (dk_at dksX6_laysFire_3 11 rfl rfl)
theorem dX6_laysFire_84 : decode cX6_laysFire 84 = .ok (.iadd, 1) := dk_96 (dk_at dksX6_laysFire_3 12 rfl rfl)
theorem dX6_laysFire_85 : decode cX6_laysFire 85 = .ok (.istore_n 2, 1) := dk_61 (dk_at dksX6_laysFire_3 13 rfl rfl)
theorem dX6_laysFire_86 : decode cX6_laysFire 86 = .ok (.iinc 4 1, 3) := dk_132 4 1 (dk_at dksX6_laysFire_3 14 rfl rfl)
theorem dX6_laysFire_89 : decode cX6_laysFire 89 = .ok (.goto (-77), 3) := dk_167 255 179 (dk_at dksX6_laysFire_3 17 rfl rfl)
theorem dX6_laysFire_92 : decode cX6_laysFire 92 = .ok (.iinc 3 1, 3) := dk_132 3 1 (dk_at dksX6_laysFire_3 20 rfl rfl)
theorem dX6_laysFire_95 : decode cX6_laysFire 95 = .ok (.goto (-91), 3) := dk_167 255 165 (dk_at dksX6_laysFire_4 0 rfl rfl)
theorem dX6_laysFire_98 : decode cX6_laysFire 98 = .ok (.return_, 1) := dk_177 (dk_at dksX6_laysFire_4 3 rfl rfl)
abbrev cX6_began : ByteArray := prog_20_method_83_code
def yX6_began : MethodName := ⟨RX6, "began", "(II)I"⟩
def dkwX6_began_3 : List UInt8 := [167, 255, 218, 28, 154, 0, 7, 29, 167, 0, 5, 21, 4, 172]
abbrev dktX6_began_3 : List UInt8 := dkwX6_began_3 ++ []
def dkwX6_began_2 : List UInt8 := [21, 5, 27, 182, 1, 90, 154, 0, 6, 167, 0, 11, 29, 4, 96, 62, 21, 5, 54, 4, 132, 5, 255]
abbrev dktX6_began_2 : List UInt8 := dkwX6_began_2 ++ dktX6_began_3
def dkwX6_began_1 : List UInt8 := [16, 254, 54, 4, 16, 95, 54, 5, 21, 5, 155, 0, 39, 42, 21, 5, 182, 0, 241, 153, 0, 24, 42]
abbrev dktX6_began_1 : List UInt8 := dkwX6_began_1 ++ dktX6_began_2
def dkwX6_began_0 : List UInt8 := [27, 3, 16, 60, 184, 0, 102, 153, 0, 12, 28, 3, 4, 184, 0, 102, 154, 0, 5, 2, 172, 3, 62]
abbrev dktX6_began_0 : List UInt8 := dkwX6_began_0 ++ dktX6_began_1
theorem dksX6_began_0 : cX6_began.data.toList.drop 0 = dktX6_began_0 := by decide +kernel
theorem dksX6_began_1 : cX6_began.data.toList.drop 23 = dktX6_began_1 := dk_seg dksX6_began_0 23 rfl rfl
theorem dksX6_began_2 : cX6_began.data.toList.drop 46 = dktX6_began_2 := dk_seg dksX6_began_1 23 rfl rfl
theorem dksX6_began_3 : cX6_began.data.toList.drop 69 = dktX6_began_3 := dk_seg dksX6_began_2 23 rfl rfl
theorem dX6_began_0 : decode cX6_began 0 = .ok (.iload_n 1, 1) := dk_27 (dk_at dksX6_began_0 0 rfl rfl)
theorem dX6_began_1 : decode cX6_began 1 = .ok (.iconst 0, 1) := dk_3 (dk_at dksX6_began_0 1 rfl rfl)
theorem dX6_began_2 : decode cX6_began 2 = .ok (.bipush 60, 2) := dk_16 60 (dk_at dksX6_began_0 2 rfl rfl)
theorem dX6_began_4 : decode cX6_began 4 = .ok (.invokestatic 102, 3) := dk_184 0 102 (dk_at dksX6_began_0 4 rfl rfl)
theorem dX6_began_7 : decode cX6_began 7 = .ok (.ifCond .eq 12, 3) := dk_153 0 12 (dk_at dksX6_began_0 7 rfl rfl)
theorem dX6_began_10 : decode cX6_began 10 = .ok (.iload_n 2, 1) := dk_28 (dk_at dksX6_began_0 10 rfl rfl)
theorem dX6_began_11 : decode cX6_began 11 = .ok (.iconst 0, 1) := dk_3 (dk_at dksX6_began_0 11 rfl rfl)
theorem dX6_began_12 : decode cX6_began 12 = .ok (.iconst 1, 1) := dk_4 (dk_at dksX6_began_0 12 rfl rfl)
theorem dX6_began_13 : decode cX6_began 13 = .ok (.invokestatic 102, 3) := dk_184 0 102 (dk_at dksX6_began_0 13 rfl rfl)
theorem dX6_began_16 : decode cX6_began 16 = .ok (.ifCond .ne 5, 3) := dk_154 0 5 (dk_at dksX6_began_0 16 rfl rfl)
theorem dX6_began_19 : decode cX6_began 19 = .ok (.iconst (-1), 1) := dk_2 (dk_at dksX6_began_0 19 rfl rfl)
theorem dX6_began_20 : decode cX6_began 20 = .ok (.ireturn, 1) := dk_172 (dk_at dksX6_began_0 20 rfl rfl)
theorem dX6_began_21 : decode cX6_began 21 = .ok (.iconst 0, 1) := dk_3 (dk_at dksX6_began_0 21 rfl rfl)
theorem dX6_began_22 : decode cX6_began 22 = .ok (.istore_n 3, 1) := dk_62 (dk_at dksX6_began_0 22 rfl rfl)
theorem dX6_began_23 : decode cX6_began 23 = .ok (.bipush (-2), 2) := dk_16 254 (dk_at dksX6_began_1 0 rfl rfl)
theorem dX6_began_25 : decode cX6_began 25 = .ok (.istore 4, 2) := dk_54 4 (dk_at dksX6_began_1 2 rfl rfl)
theorem dX6_began_27 : decode cX6_began 27 = .ok (.bipush 95, 2) := dk_16 95 (dk_at dksX6_began_1 4 rfl rfl)
theorem dX6_began_29 : decode cX6_began 29 = .ok (.istore 5, 2) := dk_54 5 (dk_at dksX6_began_1 6 rfl rfl)
theorem dX6_began_31 : decode cX6_began 31 = .ok (.iload 5, 2) := dk_21 5 (dk_at dksX6_began_1 8 rfl rfl)
theorem dX6_began_33 : decode cX6_began 33 = .ok (.ifCond .lt 39, 3) := dk_155 0 39 (dk_at dksX6_began_1 10 rfl rfl)
theorem dX6_began_36 : decode cX6_began 36 = .ok (.aload_n 0, 1) := dk_42 (dk_at dksX6_began_1 13 rfl rfl)
theorem dX6_began_37 : decode cX6_began 37 = .ok (.iload 5, 2) := dk_21 5 (dk_at dksX6_began_1 14 rfl rfl)
theorem dX6_began_39 : decode cX6_began 39 = .ok (.invokevirtual 241, 3) := dk_182 0 241 (dk_at dksX6_began_1 16 rfl rfl)
theorem dX6_began_42 : decode cX6_began 42 = .ok (.ifCond .eq 24, 3) := dk_153 0 24 (dk_at dksX6_began_1 19 rfl rfl)
theorem dX6_began_45 : decode cX6_began 45 = .ok (.aload_n 0, 1) := dk_42 (dk_at dksX6_began_1 22 rfl rfl)
theorem dX6_began_46 : decode cX6_began 46 = .ok (.iload 5, 2) := dk_21 5 (dk_at dksX6_began_2 0 rfl rfl)
theorem dX6_began_48 : decode cX6_began 48 = .ok (.iload_n 1, 1) := dk_27 (dk_at dksX6_began_2 2 rfl rfl)
theorem dX6_began_49 : decode cX6_began 49 = .ok (.invokevirtual 346, 3) := dk_182 1 90 (dk_at dksX6_began_2 3 rfl rfl)
theorem dX6_began_52 : decode cX6_began 52 = .ok (.ifCond .ne 6, 3) := dk_154 0 6 (dk_at dksX6_began_2 6 rfl rfl)
theorem dX6_began_55 : decode cX6_began 55 = .ok (.goto 11, 3) := dk_167 0 11 (dk_at dksX6_began_2 9 rfl rfl)
theorem dX6_began_58 : decode cX6_began 58 = .ok (.iload_n 3, 1) := dk_29 (dk_at dksX6_began_2 12 rfl rfl)
theorem dX6_began_59 : decode cX6_began 59 = .ok (.iconst 1, 1) := dk_4 (dk_at dksX6_began_2 13 rfl rfl)
theorem dX6_began_60 : decode cX6_began 60 = .ok (.iadd, 1) := dk_96 (dk_at dksX6_began_2 14 rfl rfl)
theorem dX6_began_61 : decode cX6_began 61 = .ok (.istore_n 3, 1) := dk_62 (dk_at dksX6_began_2 15 rfl rfl)
theorem dX6_began_62 : decode cX6_began 62 = .ok (.iload 5, 2) := dk_21 5 (dk_at dksX6_began_2 16 rfl rfl)
theorem dX6_began_64 : decode cX6_began 64 = .ok (.istore 4, 2) := dk_54 4 (dk_at dksX6_began_2 18 rfl rfl)
theorem dX6_began_66 : decode cX6_began 66 = .ok (.iinc 5 (-1), 3) := dk_132 5 255 (dk_at dksX6_began_2 20 rfl rfl)
theorem dX6_began_69 : decode cX6_began 69 = .ok (.goto (-38), 3) := dk_167 255 218 (dk_at dksX6_began_3 0 rfl rfl)
theorem dX6_began_72 : decode cX6_began 72 = .ok (.iload_n 2, 1) := dk_28 (dk_at dksX6_began_3 3 rfl rfl)
theorem dX6_began_73 : decode cX6_began 73 = .ok (.ifCond .ne 7, 3) := dk_154 0 7 (dk_at dksX6_began_3 4 rfl rfl)
theorem dX6_began_76 : decode cX6_began 76 = .ok (.iload_n 3, 1) := dk_29 (dk_at dksX6_began_3 7 rfl rfl)
theorem dX6_began_77 : decode cX6_began 77 = .ok (.goto 5, 3) := dk_167 0 5 (dk_at dksX6_began_3 8 rfl rfl)
theorem dX6_began_80 : decode cX6_began 80 = .ok (.iload 4, 2) := dk_21 4 (dk_at dksX6_began_3 11 rfl rfl)
theorem dX6_began_82 : decode cX6_began 82 = .ok (.ireturn, 1) := dk_172 (dk_at dksX6_began_3 13 rfl rfl)
abbrev cX6_couldBegin : ByteArray := prog_20_method_82_code
def yX6_couldBegin : MethodName := ⟨RX6, "couldBegin", "(II)Z"⟩
def dkwX6_couldBegin_2 : List UInt8 := [167, 0, 4, 3, 159, 0, 5, 3, 172, 132, 3, 1, 167, 255, 207, 4, 172]
abbrev dktX6_couldBegin_2 : List UInt8 := dkwX6_couldBegin_2 ++ []
def dkwX6_couldBegin_1 : List UInt8 := [180, 0, 75, 29, 46, 3, 28, 184, 0, 102, 42, 180, 0, 7, 3, 29, 96, 46, 153, 0, 7, 4]
abbrev dktX6_couldBegin_1 : List UInt8 := dkwX6_couldBegin_1 ++ dktX6_couldBegin_2
def dkwX6_couldBegin_0 : List UInt8 := [42, 27, 182, 1, 87, 3, 62, 29, 16, 96, 162, 0, 49, 42, 29, 182, 0, 241, 153, 0, 35, 42]
abbrev dktX6_couldBegin_0 : List UInt8 := dkwX6_couldBegin_0 ++ dktX6_couldBegin_1
theorem dksX6_couldBegin_0 : cX6_couldBegin.data.toList.drop 0 = dktX6_couldBegin_0 := by decide +kernel
theorem dksX6_couldBegin_1 : cX6_couldBegin.data.toList.drop 22 = dktX6_couldBegin_1 := dk_seg dksX6_couldBegin_0 22 rfl rfl
theorem dksX6_couldBegin_2 : cX6_couldBegin.data.toList.drop 44 = dktX6_couldBegin_2 := dk_seg dksX6_couldBegin_1 22 rfl rfl
theorem dX6_couldBegin_0 : decode cX6_couldBegin 0 = .ok (.aload_n 0, 1) := dk_42 (dk_at dksX6_couldBegin_0 0 rfl rfl)
theorem dX6_couldBegin_1 : decode cX6_couldBegin 1 = .ok (.iload_n 1, 1) := dk_27 (dk_at dksX6_couldBegin_0 1 rfl rfl)
theorem dX6_couldBegin_2 : decode cX6_couldBegin 2 = .ok (.invokevirtual 343, 3) := dk_182 1 87 (dk_at dksX6_couldBegin_0 2 rfl rfl)
theorem dX6_couldBegin_5 : decode cX6_couldBegin 5 = .ok (.iconst 0, 1) := dk_3 (dk_at dksX6_couldBegin_0 5 rfl rfl)
theorem dX6_couldBegin_6 : decode cX6_couldBegin 6 = .ok (.istore_n 3, 1) := dk_62 (dk_at dksX6_couldBegin_0 6 rfl rfl)
theorem dX6_couldBegin_7 : decode cX6_couldBegin 7 = .ok (.iload_n 3, 1) := dk_29 (dk_at dksX6_couldBegin_0 7 rfl rfl)
theorem dX6_couldBegin_8 : decode cX6_couldBegin 8 = .ok (.bipush 96, 2) := dk_16 96 (dk_at dksX6_couldBegin_0 8 rfl rfl)
theorem dX6_couldBegin_10 : decode cX6_couldBegin 10 = .ok (.if_icmp .ge 49, 3) := dk_162 0 49 (dk_at dksX6_couldBegin_0 10 rfl rfl)
theorem dX6_couldBegin_13 : decode cX6_couldBegin 13 = .ok (.aload_n 0, 1) := dk_42 (dk_at dksX6_couldBegin_0 13 rfl rfl)
theorem dX6_couldBegin_14 : decode cX6_couldBegin 14 = .ok (.iload_n 3, 1) := dk_29 (dk_at dksX6_couldBegin_0 14 rfl rfl)
theorem dX6_couldBegin_15 : decode cX6_couldBegin 15 = .ok (.invokevirtual 241, 3) := dk_182 0 241 (dk_at dksX6_couldBegin_0 15 rfl rfl)
theorem dX6_couldBegin_18 : decode cX6_couldBegin 18 = .ok (.ifCond .eq 35, 3) := dk_153 0 35 (dk_at dksX6_couldBegin_0 18 rfl rfl)
theorem dX6_couldBegin_21 : decode cX6_couldBegin 21 = .ok (.aload_n 0, 1) := dk_42 (dk_at dksX6_couldBegin_0 21 rfl rfl)
theorem dX6_couldBegin_22 : decode cX6_couldBegin 22 = .ok (.getfield 75, 3) := dk_180 0 75 (dk_at dksX6_couldBegin_1 0 rfl rfl)
theorem dX6_couldBegin_25 : decode cX6_couldBegin 25 = .ok (.iload_n 3, 1) := dk_29 (dk_at dksX6_couldBegin_1 3 rfl rfl)
theorem dX6_couldBegin_26 : decode cX6_couldBegin 26 = .ok (.iaload, 1) := dk_46 (dk_at dksX6_couldBegin_1 4 rfl rfl)
theorem dX6_couldBegin_27 : decode cX6_couldBegin 27 = .ok (.iconst 0, 1) := dk_3 (dk_at dksX6_couldBegin_1 5 rfl rfl)
theorem dX6_couldBegin_28 : decode cX6_couldBegin 28 = .ok (.iload_n 2, 1) := dk_28 (dk_at dksX6_couldBegin_1 6 rfl rfl)
theorem dX6_couldBegin_29 : decode cX6_couldBegin 29 = .ok (.invokestatic 102, 3) := dk_184 0 102 (dk_at dksX6_couldBegin_1 7 rfl rfl)
theorem dX6_couldBegin_32 : decode cX6_couldBegin 32 = .ok (.aload_n 0, 1) := dk_42 (dk_at dksX6_couldBegin_1 10 rfl rfl)
theorem dX6_couldBegin_33 : decode cX6_couldBegin 33 = .ok (.getfield 7, 3) := dk_180 0 7 (dk_at dksX6_couldBegin_1 11 rfl rfl)
theorem dX6_couldBegin_36 : decode cX6_couldBegin 36 = .ok (.iconst 0, 1) := dk_3 (dk_at dksX6_couldBegin_1 14 rfl rfl)
theorem dX6_couldBegin_37 : decode cX6_couldBegin 37 = .ok (.iload_n 3, 1) := dk_29 (dk_at dksX6_couldBegin_1 15 rfl rfl)
theorem dX6_couldBegin_38 : decode cX6_couldBegin 38 = .ok (.iadd, 1) := dk_96 (dk_at dksX6_couldBegin_1 16 rfl rfl)
theorem dX6_couldBegin_39 : decode cX6_couldBegin 39 = .ok (.iaload, 1) := dk_46 (dk_at dksX6_couldBegin_1 17 rfl rfl)
theorem dX6_couldBegin_40 : decode cX6_couldBegin 40 = .ok (.ifCond .eq 7, 3) := dk_153 0 7 (dk_at dksX6_couldBegin_1 18 rfl rfl)
theorem dX6_couldBegin_43 : decode cX6_couldBegin 43 = .ok (.iconst 1, 1) := dk_4 (dk_at dksX6_couldBegin_1 21 rfl rfl)
theorem dX6_couldBegin_44 : decode cX6_couldBegin 44 = .ok (.goto 4, 3) := dk_167 0 4 (dk_at dksX6_couldBegin_2 0 rfl rfl)
theorem dX6_couldBegin_47 : decode cX6_couldBegin 47 = .ok (.iconst 0, 1) := dk_3 (dk_at dksX6_couldBegin_2 3 rfl rfl)
theorem dX6_couldBegin_48 : decode cX6_couldBegin 48 = .ok (.if_icmp .eq 5, 3) := dk_159 0 5 (dk_at dksX6_couldBegin_2 4 rfl rfl)
theorem dX6_couldBegin_51 : decode cX6_couldBegin 51 = .ok (.iconst 0, 1) := dk_3 (dk_at dksX6_couldBegin_2 7 rfl rfl)
theorem dX6_couldBegin_52 : decode cX6_couldBegin 52 = .ok (.ireturn, 1) := dk_172 (dk_at dksX6_couldBegin_2 8 rfl rfl)
theorem dX6_couldBegin_53 : decode cX6_couldBegin 53 = .ok (.iinc 3 1, 3) := dk_132 3 1 (dk_at dksX6_couldBegin_2 9 rfl rfl)
theorem dX6_couldBegin_56 : decode cX6_couldBegin 56 = .ok (.goto (-49), 3) := dk_167 255 207 (dk_at dksX6_couldBegin_2 12 rfl rfl)
theorem dX6_couldBegin_59 : decode cX6_couldBegin 59 = .ok (.iconst 1, 1) := dk_4 (dk_at dksX6_couldBegin_2 15 rfl rfl)
theorem dX6_couldBegin_60 : decode cX6_couldBegin 60 = .ok (.ireturn, 1) := dk_172 (dk_at dksX6_couldBegin_2 16 rfl rfl)
abbrev cX6_breaks : ByteArray := prog_20_method_88_code
def yX6_breaks : MethodName := ⟨RX6, "breaks", "(II)I"⟩
def dkwX6_breaks_3 : List UInt8 := [172]
abbrev dktX6_breaks_3 : List UInt8 := dkwX6_breaks_3 ++ []
def dkwX6_breaks_2 : List UInt8 := [27, 29, 184, 1, 25, 28, 160, 0, 6, 16, 254, 172, 132, 3, 1, 167, 255, 236, 42, 27, 28, 182, 1, 105]
abbrev dktX6_breaks_2 : List UInt8 := dkwX6_breaks_2 ++ dktX6_breaks_3
def dkwX6_breaks_1 : List UInt8 := [182, 0, 241, 153, 0, 11, 42, 28, 182, 0, 241, 154, 0, 6, 16, 253, 172, 3, 62, 29, 7, 162, 0, 21]
abbrev dktX6_breaks_1 : List UInt8 := dkwX6_breaks_1 ++ dktX6_breaks_2
def dkwX6_breaks_0 : List UInt8 := [27, 184, 0, 110, 153, 0, 15, 28, 184, 0, 110, 153, 0, 8, 27, 28, 160, 0, 5, 2, 172, 42, 27]
abbrev dktX6_breaks_0 : List UInt8 := dkwX6_breaks_0 ++ dktX6_breaks_1
theorem dksX6_breaks_0 : cX6_breaks.data.toList.drop 0 = dktX6_breaks_0 := by decide +kernel
theorem dksX6_breaks_1 : cX6_breaks.data.toList.drop 23 = dktX6_breaks_1 := dk_seg dksX6_breaks_0 23 rfl rfl
theorem dksX6_breaks_2 : cX6_breaks.data.toList.drop 47 = dktX6_breaks_2 := dk_seg dksX6_breaks_1 24 rfl rfl
theorem dksX6_breaks_3 : cX6_breaks.data.toList.drop 71 = dktX6_breaks_3 := dk_seg dksX6_breaks_2 24 rfl rfl
theorem dX6_breaks_0 : decode cX6_breaks 0 = .ok (.iload_n 1, 1) := dk_27 (dk_at dksX6_breaks_0 0 rfl rfl)
theorem dX6_breaks_1 : decode cX6_breaks 1 = .ok (.invokestatic 110, 3) := dk_184 0 110 (dk_at dksX6_breaks_0 1 rfl rfl)
theorem dX6_breaks_4 : decode cX6_breaks 4 = .ok (.ifCond .eq 15, 3) := dk_153 0 15 (dk_at dksX6_breaks_0 4 rfl rfl)
theorem dX6_breaks_7 : decode cX6_breaks 7 = .ok (.iload_n 2, 1) := dk_28 (dk_at dksX6_breaks_0 7 rfl rfl)
theorem dX6_breaks_8 : decode cX6_breaks 8 = .ok (.invokestatic 110, 3) := dk_184 0 110 (dk_at dksX6_breaks_0 8 rfl rfl)
theorem dX6_breaks_11 : decode cX6_breaks 11 = .ok (.ifCond .eq 8, 3) := dk_153 0 8 (dk_at dksX6_breaks_0 11 rfl rfl)
theorem dX6_breaks_14 : decode cX6_breaks 14 = .ok (.iload_n 1, 1) := dk_27 (dk_at dksX6_breaks_0 14 rfl rfl)
theorem dX6_breaks_15 : decode cX6_breaks 15 = .ok (.iload_n 2, 1) := dk_28 (dk_at dksX6_breaks_0 15 rfl rfl)
theorem dX6_breaks_16 : decode cX6_breaks 16 = .ok (.if_icmp .ne 5, 3) := dk_160 0 5 (dk_at dksX6_breaks_0 16 rfl rfl)
theorem dX6_breaks_19 : decode cX6_breaks 19 = .ok (.iconst (-1), 1) := dk_2 (dk_at dksX6_breaks_0 19 rfl rfl)
theorem dX6_breaks_20 : decode cX6_breaks 20 = .ok (.ireturn, 1) := dk_172 (dk_at dksX6_breaks_0 20 rfl rfl)
theorem dX6_breaks_21 : decode cX6_breaks 21 = .ok (.aload_n 0, 1) := dk_42 (dk_at dksX6_breaks_0 21 rfl rfl)
theorem dX6_breaks_22 : decode cX6_breaks 22 = .ok (.iload_n 1, 1) := dk_27 (dk_at dksX6_breaks_0 22 rfl rfl)
theorem dX6_breaks_23 : decode cX6_breaks 23 = .ok (.invokevirtual 241, 3) := dk_182 0 241 (dk_at dksX6_breaks_1 0 rfl rfl)
theorem dX6_breaks_26 : decode cX6_breaks 26 = .ok (.ifCond .eq 11, 3) := dk_153 0 11 (dk_at dksX6_breaks_1 3 rfl rfl)
theorem dX6_breaks_29 : decode cX6_breaks 29 = .ok (.aload_n 0, 1) := dk_42 (dk_at dksX6_breaks_1 6 rfl rfl)
theorem dX6_breaks_30 : decode cX6_breaks 30 = .ok (.iload_n 2, 1) := dk_28 (dk_at dksX6_breaks_1 7 rfl rfl)
theorem dX6_breaks_31 : decode cX6_breaks 31 = .ok (.invokevirtual 241, 3) := dk_182 0 241 (dk_at dksX6_breaks_1 8 rfl rfl)
theorem dX6_breaks_34 : decode cX6_breaks 34 = .ok (.ifCond .ne 6, 3) := dk_154 0 6 (dk_at dksX6_breaks_1 11 rfl rfl)
theorem dX6_breaks_37 : decode cX6_breaks 37 = .ok (.bipush (-3), 2) := dk_16 253 (dk_at dksX6_breaks_1 14 rfl rfl)
theorem dX6_breaks_39 : decode cX6_breaks 39 = .ok (.ireturn, 1) := dk_172 (dk_at dksX6_breaks_1 16 rfl rfl)
theorem dX6_breaks_40 : decode cX6_breaks 40 = .ok (.iconst 0, 1) := dk_3 (dk_at dksX6_breaks_1 17 rfl rfl)
theorem dX6_breaks_41 : decode cX6_breaks 41 = .ok (.istore_n 3, 1) := dk_62 (dk_at dksX6_breaks_1 18 rfl rfl)
theorem dX6_breaks_42 : decode cX6_breaks 42 = .ok (.iload_n 3, 1) := dk_29 (dk_at dksX6_breaks_1 19 rfl rfl)
theorem dX6_breaks_43 : decode cX6_breaks 43 = .ok (.iconst 4, 1) := dk_7 (dk_at dksX6_breaks_1 20 rfl rfl)
theorem dX6_breaks_44 : decode cX6_breaks 44 = .ok (.if_icmp .ge 21, 3) := dk_162 0 21 (dk_at dksX6_breaks_1 21 rfl rfl)
theorem dX6_breaks_47 : decode cX6_breaks 47 = .ok (.iload_n 1, 1) := dk_27 (dk_at dksX6_breaks_2 0 rfl rfl)
theorem dX6_breaks_48 : decode cX6_breaks 48 = .ok (.iload_n 3, 1) := dk_29 (dk_at dksX6_breaks_2 1 rfl rfl)
theorem dX6_breaks_49 : decode cX6_breaks 49 = .ok (.invokestatic 281, 3) := dk_184 1 25 (dk_at dksX6_breaks_2 2 rfl rfl)
theorem dX6_breaks_52 : decode cX6_breaks 52 = .ok (.iload_n 2, 1) := dk_28 (dk_at dksX6_breaks_2 5 rfl rfl)
theorem dX6_breaks_53 : decode cX6_breaks 53 = .ok (.if_icmp .ne 6, 3) := dk_160 0 6 (dk_at dksX6_breaks_2 6 rfl rfl)
theorem dX6_breaks_56 : decode cX6_breaks 56 = .ok (.bipush (-2), 2) := dk_16 254 (dk_at dksX6_breaks_2 9 rfl rfl)
theorem dX6_breaks_58 : decode cX6_breaks 58 = .ok (.ireturn, 1) := dk_172 (dk_at dksX6_breaks_2 11 rfl rfl)
theorem dX6_breaks_59 : decode cX6_breaks 59 = .ok (.iinc 3 1, 3) := dk_132 3 1 (dk_at dksX6_breaks_2 12 rfl rfl)
theorem dX6_breaks_62 : decode cX6_breaks 62 = .ok (.goto (-20), 3) := dk_167 255 236 (dk_at dksX6_breaks_2 15 rfl rfl)
theorem dX6_breaks_65 : decode cX6_breaks 65 = .ok (.aload_n 0, 1) := dk_42 (dk_at dksX6_breaks_2 18 rfl rfl)
theorem dX6_breaks_66 : decode cX6_breaks 66 = .ok (.iload_n 1, 1) := dk_27 (dk_at dksX6_breaks_2 19 rfl rfl)
theorem dX6_breaks_67 : decode cX6_breaks 67 = .ok (.iload_n 2, 1) := dk_28 (dk_at dksX6_breaks_2 20 rfl rfl)
theorem dX6_breaks_68 : decode cX6_breaks 68 = .ok (.invokevirtual 361, 3) := dk_182 1 105 (dk_at dksX6_breaks_2 21 rfl rfl)
theorem dX6_breaks_71 : decode cX6_breaks 71 = .ok (.ireturn, 1) := dk_172 (dk_at dksX6_breaks_3 0 rfl rfl)
abbrev cX6_waysApart : ByteArray := prog_20_method_86_code
def yX6_waysApart : MethodName := ⟨RX6, "waysApart", "(II)I"⟩
def dkwX6_waysApart_2 : List UInt8 := [27, 28, 182, 1, 102, 167, 255, 237, 29, 172]
abbrev dktX6_waysApart_2 : List UInt8 := dkwX6_waysApart_2 ++ []
def dkwX6_waysApart_1 : List UInt8 := [21, 4, 2, 79, 132, 4, 1, 167, 255, 230, 42, 27, 28, 182, 1, 99, 153, 0, 16, 29, 4, 96, 62, 42]
abbrev dktX6_waysApart_1 : List UInt8 := dkwX6_waysApart_1 ++ dktX6_waysApart_2
def dkwX6_waysApart_0 : List UInt8 := [3, 62, 3, 54, 4, 21, 4, 16, 96, 162, 0, 25, 42, 180, 0, 81, 21, 4, 2, 79, 42, 180, 0, 84]
abbrev dktX6_waysApart_0 : List UInt8 := dkwX6_waysApart_0 ++ dktX6_waysApart_1
theorem dksX6_waysApart_0 : cX6_waysApart.data.toList.drop 0 = dktX6_waysApart_0 := by decide +kernel
theorem dksX6_waysApart_1 : cX6_waysApart.data.toList.drop 24 = dktX6_waysApart_1 := dk_seg dksX6_waysApart_0 24 rfl rfl
theorem dksX6_waysApart_2 : cX6_waysApart.data.toList.drop 48 = dktX6_waysApart_2 := dk_seg dksX6_waysApart_1 24 rfl rfl
theorem dX6_waysApart_0 : decode cX6_waysApart 0 = .ok (.iconst 0, 1) := dk_3 (dk_at dksX6_waysApart_0 0 rfl rfl)
theorem dX6_waysApart_1 : decode cX6_waysApart 1 = .ok (.istore_n 3, 1) := dk_62 (dk_at dksX6_waysApart_0 1 rfl rfl)
theorem dX6_waysApart_2 : decode cX6_waysApart 2 = .ok (.iconst 0, 1) := dk_3 (dk_at dksX6_waysApart_0 2 rfl rfl)
theorem dX6_waysApart_3 : decode cX6_waysApart 3 = .ok (.istore 4, 2) := dk_54 4 (dk_at dksX6_waysApart_0 3 rfl rfl)
theorem dX6_waysApart_5 : decode cX6_waysApart 5 = .ok (.iload 4, 2) := dk_21 4 (dk_at dksX6_waysApart_0 5 rfl rfl)
theorem dX6_waysApart_7 : decode cX6_waysApart 7 = .ok (.bipush 96, 2) := dk_16 96 (dk_at dksX6_waysApart_0 7 rfl rfl)
theorem dX6_waysApart_9 : decode cX6_waysApart 9 = .ok (.if_icmp .ge 25, 3) := dk_162 0 25 (dk_at dksX6_waysApart_0 9 rfl rfl)
theorem dX6_waysApart_12 : decode cX6_waysApart 12 = .ok (.aload_n 0, 1) := dk_42 (dk_at dksX6_waysApart_0 12 rfl rfl)
theorem dX6_waysApart_13 : decode cX6_waysApart 13 = .ok (.getfield 81, 3) := dk_180 0 81 (dk_at dksX6_waysApart_0 13 rfl rfl)
theorem dX6_waysApart_16 : decode cX6_waysApart 16 = .ok (.iload 4, 2) := dk_21 4 (dk_at dksX6_waysApart_0 16 rfl rfl)
theorem dX6_waysApart_18 : decode cX6_waysApart 18 = .ok (.iconst (-1), 1) := dk_2 (dk_at dksX6_waysApart_0 18 rfl rfl)
theorem dX6_waysApart_19 : decode cX6_waysApart 19 = .ok (.iastore, 1) := dk_79 (dk_at dksX6_waysApart_0 19 rfl rfl)
theorem dX6_waysApart_20 : decode cX6_waysApart 20 = .ok (.aload_n 0, 1) := dk_42 (dk_at dksX6_waysApart_0 20 rfl rfl)
theorem dX6_waysApart_21 : decode cX6_waysApart 21 = .ok (.getfield 84, 3) := dk_180 0 84 (dk_at dksX6_waysApart_0 21 rfl rfl)
theorem dX6_waysApart_24 : decode cX6_waysApart 24 = .ok (.iload 4, 2) := dk_21 4 (dk_at dksX6_waysApart_1 0 rfl rfl)
theorem dX6_waysApart_26 : decode cX6_waysApart 26 = .ok (.iconst (-1), 1) := dk_2 (dk_at dksX6_waysApart_1 2 rfl rfl)
theorem dX6_waysApart_27 : decode cX6_waysApart 27 = .ok (.iastore, 1) := dk_79 (dk_at dksX6_waysApart_1 3 rfl rfl)
theorem dX6_waysApart_28 : decode cX6_waysApart 28 = .ok (.iinc 4 1, 3) := dk_132 4 1 (dk_at dksX6_waysApart_1 4 rfl rfl)
theorem dX6_waysApart_31 : decode cX6_waysApart 31 = .ok (.goto (-26), 3) := dk_167 255 230 (dk_at dksX6_waysApart_1 7 rfl rfl)
theorem dX6_waysApart_34 : decode cX6_waysApart 34 = .ok (.aload_n 0, 1) := dk_42 (dk_at dksX6_waysApart_1 10 rfl rfl)
theorem dX6_waysApart_35 : decode cX6_waysApart 35 = .ok (.iload_n 1, 1) := dk_27 (dk_at dksX6_waysApart_1 11 rfl rfl)
theorem dX6_waysApart_36 : decode cX6_waysApart 36 = .ok (.iload_n 2, 1) := dk_28 (dk_at dksX6_waysApart_1 12 rfl rfl)
theorem dX6_waysApart_37 : decode cX6_waysApart 37 = .ok (.invokevirtual 355, 3) := dk_182 1 99 (dk_at dksX6_waysApart_1 13 rfl rfl)
theorem dX6_waysApart_40 : decode cX6_waysApart 40 = .ok (.ifCond .eq 16, 3) := dk_153 0 16 (dk_at dksX6_waysApart_1 16 rfl rfl)
theorem dX6_waysApart_43 : decode cX6_waysApart 43 = .ok (.iload_n 3, 1) := dk_29 (dk_at dksX6_waysApart_1 19 rfl rfl)
theorem dX6_waysApart_44 : decode cX6_waysApart 44 = .ok (.iconst 1, 1) := dk_4 (dk_at dksX6_waysApart_1 20 rfl rfl)
theorem dX6_waysApart_45 : decode cX6_waysApart 45 = .ok (.iadd, 1) := dk_96 (dk_at dksX6_waysApart_1 21 rfl rfl)
theorem dX6_waysApart_46 : decode cX6_waysApart 46 = .ok (.istore_n 3, 1) := dk_62 (dk_at dksX6_waysApart_1 22 rfl rfl)
theorem dX6_waysApart_47 : decode cX6_waysApart 47 = .ok (.aload_n 0, 1) := dk_42 (dk_at dksX6_waysApart_1 23 rfl rfl)
theorem dX6_waysApart_48 : decode cX6_waysApart 48 = .ok (.iload_n 1, 1) := dk_27 (dk_at dksX6_waysApart_2 0 rfl rfl)
theorem dX6_waysApart_49 : decode cX6_waysApart 49 = .ok (.iload_n 2, 1) := dk_28 (dk_at dksX6_waysApart_2 1 rfl rfl)
theorem dX6_waysApart_50 : decode cX6_waysApart 50 = .ok (.invokevirtual 358, 3) := dk_182 1 102 (dk_at dksX6_waysApart_2 2 rfl rfl)
theorem dX6_waysApart_53 : decode cX6_waysApart 53 = .ok (.goto (-19), 3) := dk_167 255 237 (dk_at dksX6_waysApart_2 5 rfl rfl)
theorem dX6_waysApart_56 : decode cX6_waysApart 56 = .ok (.iload_n 3, 1) := dk_29 (dk_at dksX6_waysApart_2 8 rfl rfl)
theorem dX6_waysApart_57 : decode cX6_waysApart 57 = .ok (.ireturn, 1) := dk_172 (dk_at dksX6_waysApart_2 9 rfl rfl)
abbrev cX6_findsWay : ByteArray := prog_20_method_85_code
def yX6_findsWay : MethodName := ⟨RX6, "findsWay", "(II)Z"⟩
def dkwX6_findsWay_11 : List UInt8 := [29, 46, 182, 1, 96, 132, 3, 1, 167, 255, 30, 3, 172]
abbrev dktX6_findsWay_11 : List UInt8 := dkwX6_findsWay_11 ++ []
def dkwX6_findsWay_10 : List UInt8 := [96, 42, 180, 0, 78, 29, 46, 182, 1, 96, 167, 0, 19, 42, 5, 21, 4, 104, 4, 96, 42, 180, 0, 78]
abbrev dktX6_findsWay_10 : List UInt8 := dkwX6_findsWay_10 ++ dktX6_findsWay_11
def dkwX6_findsWay_9 : List UInt8 := [29, 46, 182, 1, 96, 167, 0, 48, 21, 6, 153, 0, 27, 42, 5, 42, 180, 0, 84, 21, 4, 46, 104, 4]
abbrev dktX6_findsWay_9 : List UInt8 := dkwX6_findsWay_9 ++ dktX6_findsWay_10
def dkwX6_findsWay_8 : List UInt8 := [46, 182, 1, 96, 132, 7, 1, 167, 255, 180, 21, 6, 153, 0, 65, 42, 5, 21, 4, 104, 42, 180, 0, 78]
abbrev dktX6_findsWay_8 : List UInt8 := dkwX6_findsWay_8 ++ dktX6_findsWay_9
def dkwX6_findsWay_7 : List UInt8 := [160, 0, 14, 42, 180, 0, 84, 21, 8, 46, 27, 159, 0, 17, 42, 5, 21, 8, 104, 42, 180, 0, 78, 29]
abbrev dktX6_findsWay_7 : List UInt8 := dkwX6_findsWay_7 ++ dktX6_findsWay_8
def dkwX6_findsWay_6 : List UInt8 := [153, 0, 52, 21, 8, 27, 159, 0, 46, 42, 180, 0, 81, 21, 4, 46, 21, 8, 159, 0, 34, 21, 4, 27]
abbrev dktX6_findsWay_6 : List UInt8 := dkwX6_findsWay_6 ++ dktX6_findsWay_7
def dkwX6_findsWay_5 : List UInt8 := [54, 7, 21, 7, 7, 162, 0, 76, 21, 4, 21, 7, 184, 1, 25, 54, 8, 42, 21, 8, 182, 0, 241]
abbrev dktX6_findsWay_5 : List UInt8 := dkwX6_findsWay_5 ++ dktX6_findsWay_6
def dkwX6_findsWay_4 : List UInt8 := [42, 180, 0, 84, 21, 4, 46, 2, 159, 0, 7, 4, 167, 0, 4, 3, 54, 6, 21, 5, 153, 0, 107, 3]
abbrev dktX6_findsWay_4 : List UInt8 := dkwX6_findsWay_4 ++ dktX6_findsWay_5
def dkwX6_findsWay_3 : List UInt8 := [160, 0, 7, 4, 167, 0, 4, 3, 54, 5, 21, 4, 28, 160, 0, 5, 4, 172, 21, 4, 27, 159, 0, 18]
abbrev dktX6_findsWay_3 : List UInt8 := dkwX6_findsWay_3 ++ dktX6_findsWay_4
def dkwX6_findsWay_2 : List UInt8 := [162, 0, 224, 42, 180, 0, 78, 29, 46, 5, 108, 54, 4, 42, 180, 0, 78, 29, 46, 5, 112, 4]
abbrev dktX6_findsWay_2 : List UInt8 := dkwX6_findsWay_2 ++ dktX6_findsWay_3
def dkwX6_findsWay_1 : List UInt8 := [181, 1, 93, 42, 5, 27, 104, 4, 96, 5, 27, 104, 4, 96, 182, 1, 96, 3, 62, 29, 42, 180, 1, 93]
abbrev dktX6_findsWay_1 : List UInt8 := dkwX6_findsWay_1 ++ dktX6_findsWay_2
def dkwX6_findsWay_0 : List UInt8 := [3, 62, 29, 17, 0, 192, 162, 0, 16, 42, 180, 0, 87, 29, 2, 79, 132, 3, 1, 167, 255, 239, 42, 3]
abbrev dktX6_findsWay_0 : List UInt8 := dkwX6_findsWay_0 ++ dktX6_findsWay_1
theorem dksX6_findsWay_0 : cX6_findsWay.data.toList.drop 0 = dktX6_findsWay_0 := by decide +kernel
theorem dksX6_findsWay_1 : cX6_findsWay.data.toList.drop 24 = dktX6_findsWay_1 := dk_seg dksX6_findsWay_0 24 rfl rfl
theorem dksX6_findsWay_2 : cX6_findsWay.data.toList.drop 48 = dktX6_findsWay_2 := dk_seg dksX6_findsWay_1 24 rfl rfl
theorem dksX6_findsWay_3 : cX6_findsWay.data.toList.drop 70 = dktX6_findsWay_3 := dk_seg dksX6_findsWay_2 22 rfl rfl
theorem dksX6_findsWay_4 : cX6_findsWay.data.toList.drop 94 = dktX6_findsWay_4 := dk_seg dksX6_findsWay_3 24 rfl rfl
theorem dksX6_findsWay_5 : cX6_findsWay.data.toList.drop 118 = dktX6_findsWay_5 := dk_seg dksX6_findsWay_4 24 rfl rfl
theorem dksX6_findsWay_6 : cX6_findsWay.data.toList.drop 141 = dktX6_findsWay_6 := dk_seg dksX6_findsWay_5 23 rfl rfl
theorem dksX6_findsWay_7 : cX6_findsWay.data.toList.drop 165 = dktX6_findsWay_7 := dk_seg dksX6_findsWay_6 24 rfl rfl
theorem dksX6_findsWay_8 : cX6_findsWay.data.toList.drop 189 = dktX6_findsWay_8 := dk_seg dksX6_findsWay_7 24 rfl rfl
theorem dksX6_findsWay_9 : cX6_findsWay.data.toList.drop 213 = dktX6_findsWay_9 := dk_seg dksX6_findsWay_8 24 rfl rfl
theorem dksX6_findsWay_10 : cX6_findsWay.data.toList.drop 237 = dktX6_findsWay_10 := dk_seg dksX6_findsWay_9 24 rfl rfl
theorem dksX6_findsWay_11 : cX6_findsWay.data.toList.drop 261 = dktX6_findsWay_11 := dk_seg dksX6_findsWay_10 24 rfl rfl
theorem dX6_findsWay_0 : decode cX6_findsWay 0 = .ok (.iconst 0, 1) := dk_3 (dk_at dksX6_findsWay_0 0 rfl rfl)
theorem dX6_findsWay_1 : decode cX6_findsWay 1 = .ok (.istore_n 3, 1) := dk_62 (dk_at dksX6_findsWay_0 1 rfl rfl)
theorem dX6_findsWay_2 : decode cX6_findsWay 2 = .ok (.iload_n 3, 1) := dk_29 (dk_at dksX6_findsWay_0 2 rfl rfl)
theorem dX6_findsWay_3 : decode cX6_findsWay 3 = .ok (.sipush 192, 3) := dk_17 0 192 (dk_at dksX6_findsWay_0 3 rfl rfl)
theorem dX6_findsWay_6 : decode cX6_findsWay 6 = .ok (.if_icmp .ge 16, 3) := dk_162 0 16 (dk_at dksX6_findsWay_0 6 rfl rfl)
theorem dX6_findsWay_9 : decode cX6_findsWay 9 = .ok (.aload_n 0, 1) := dk_42 (dk_at dksX6_findsWay_0 9 rfl rfl)
theorem dX6_findsWay_10 : decode cX6_findsWay 10 = .ok (.getfield 87, 3) := dk_180 0 87 (dk_at dksX6_findsWay_0 10 rfl rfl)
theorem dX6_findsWay_13 : decode cX6_findsWay 13 = .ok (.iload_n 3, 1) := dk_29 (dk_at dksX6_findsWay_0 13 rfl rfl)
theorem dX6_findsWay_14 : decode cX6_findsWay 14 = .ok (.iconst (-1), 1) := dk_2 (dk_at dksX6_findsWay_0 14 rfl rfl)
theorem dX6_findsWay_15 : decode cX6_findsWay 15 = .ok (.iastore, 1) := dk_79 (dk_at dksX6_findsWay_0 15 rfl rfl)
theorem dX6_findsWay_16 : decode cX6_findsWay 16 = .ok (.iinc 3 1, 3) := dk_132 3 1 (dk_at dksX6_findsWay_0 16 rfl rfl)
theorem dX6_findsWay_19 : decode cX6_findsWay 19 = .ok (.goto (-17), 3) := dk_167 255 239 (dk_at dksX6_findsWay_0 19 rfl rfl)
theorem dX6_findsWay_22 : decode cX6_findsWay 22 = .ok (.aload_n 0, 1) := dk_42 (dk_at dksX6_findsWay_0 22 rfl rfl)
theorem dX6_findsWay_23 : decode cX6_findsWay 23 = .ok (.iconst 0, 1) := dk_3 (dk_at dksX6_findsWay_0 23 rfl rfl)
theorem dX6_findsWay_24 : decode cX6_findsWay 24 = .ok (.putfield 349, 3) := dk_181 1 93 (dk_at dksX6_findsWay_1 0 rfl rfl)
theorem dX6_findsWay_27 : decode cX6_findsWay 27 = .ok (.aload_n 0, 1) := dk_42 (dk_at dksX6_findsWay_1 3 rfl rfl)
theorem dX6_findsWay_28 : decode cX6_findsWay 28 = .ok (.iconst 2, 1) := dk_5 (dk_at dksX6_findsWay_1 4 rfl rfl)
theorem dX6_findsWay_29 : decode cX6_findsWay 29 = .ok (.iload_n 1, 1) := dk_27 (dk_at dksX6_findsWay_1 5 rfl rfl)
theorem dX6_findsWay_30 : decode cX6_findsWay 30 = .ok (.imul, 1) := dk_104 (dk_at dksX6_findsWay_1 6 rfl rfl)
theorem dX6_findsWay_31 : decode cX6_findsWay 31 = .ok (.iconst 1, 1) := dk_4 (dk_at dksX6_findsWay_1 7 rfl rfl)
theorem dX6_findsWay_32 : decode cX6_findsWay 32 = .ok (.iadd, 1) := dk_96 (dk_at dksX6_findsWay_1 8 rfl rfl)
theorem dX6_findsWay_33 : decode cX6_findsWay 33 = .ok (.iconst 2, 1) := dk_5 (dk_at dksX6_findsWay_1 9 rfl rfl)
theorem dX6_findsWay_34 : decode cX6_findsWay 34 = .ok (.iload_n 1, 1) := dk_27 (dk_at dksX6_findsWay_1 10 rfl rfl)
theorem dX6_findsWay_35 : decode cX6_findsWay 35 = .ok (.imul, 1) := dk_104 (dk_at dksX6_findsWay_1 11 rfl rfl)
theorem dX6_findsWay_36 : decode cX6_findsWay 36 = .ok (.iconst 1, 1) := dk_4 (dk_at dksX6_findsWay_1 12 rfl rfl)
theorem dX6_findsWay_37 : decode cX6_findsWay 37 = .ok (.iadd, 1) := dk_96 (dk_at dksX6_findsWay_1 13 rfl rfl)
theorem dX6_findsWay_38 : decode cX6_findsWay 38 = .ok (.invokevirtual 352, 3) := dk_182 1 96 (dk_at dksX6_findsWay_1 14 rfl rfl)
theorem dX6_findsWay_41 : decode cX6_findsWay 41 = .ok (.iconst 0, 1) := dk_3 (dk_at dksX6_findsWay_1 17 rfl rfl)
theorem dX6_findsWay_42 : decode cX6_findsWay 42 = .ok (.istore_n 3, 1) := dk_62 (dk_at dksX6_findsWay_1 18 rfl rfl)
theorem dX6_findsWay_43 : decode cX6_findsWay 43 = .ok (.iload_n 3, 1) := dk_29 (dk_at dksX6_findsWay_1 19 rfl rfl)
theorem dX6_findsWay_44 : decode cX6_findsWay 44 = .ok (.aload_n 0, 1) := dk_42 (dk_at dksX6_findsWay_1 20 rfl rfl)
theorem dX6_findsWay_45 : decode cX6_findsWay 45 = .ok (.getfield 349, 3) := dk_180 1 93 (dk_at dksX6_findsWay_1 21 rfl rfl)
theorem dX6_findsWay_48 : decode cX6_findsWay 48 = .ok (.if_icmp .ge 224, 3) := dk_162 0 224 (dk_at dksX6_findsWay_2 0 rfl rfl)
theorem dX6_findsWay_51 : decode cX6_findsWay 51 = .ok (.aload_n 0, 1) := dk_42 (dk_at dksX6_findsWay_2 3 rfl rfl)
theorem dX6_findsWay_52 : decode cX6_findsWay 52 = .ok (.getfield 78, 3) := dk_180 0 78 (dk_at dksX6_findsWay_2 4 rfl rfl)
theorem dX6_findsWay_55 : decode cX6_findsWay 55 = .ok (.iload_n 3, 1) := dk_29 (dk_at dksX6_findsWay_2 7 rfl rfl)
theorem dX6_findsWay_56 : decode cX6_findsWay 56 = .ok (.iaload, 1) := dk_46 (dk_at dksX6_findsWay_2 8 rfl rfl)
theorem dX6_findsWay_57 : decode cX6_findsWay 57 = .ok (.iconst 2, 1) := dk_5 (dk_at dksX6_findsWay_2 9 rfl rfl)
theorem dX6_findsWay_58 : decode cX6_findsWay 58 = .ok (.idiv, 1) := dk_108 (dk_at dksX6_findsWay_2 10 rfl rfl)
theorem dX6_findsWay_59 : decode cX6_findsWay 59 = .ok (.istore 4, 2) := dk_54 4 (dk_at dksX6_findsWay_2 11 rfl rfl)
theorem dX6_findsWay_61 : decode cX6_findsWay 61 = .ok (.aload_n 0, 1) := dk_42 (dk_at dksX6_findsWay_2 13 rfl rfl)
theorem dX6_findsWay_62 : decode cX6_findsWay 62 = .ok (.getfield 78, 3) := dk_180 0 78 (dk_at dksX6_findsWay_2 14 rfl rfl)
theorem dX6_findsWay_65 : decode cX6_findsWay 65 = .ok (.iload_n 3, 1) := dk_29 (dk_at dksX6_findsWay_2 17 rfl rfl)
theorem dX6_findsWay_66 : decode cX6_findsWay 66 = .ok (.iaload, 1) := dk_46 (dk_at dksX6_findsWay_2 18 rfl rfl)
theorem dX6_findsWay_67 : decode cX6_findsWay 67 = .ok (.iconst 2, 1) := dk_5 (dk_at dksX6_findsWay_2 19 rfl rfl)
theorem dX6_findsWay_68 : decode cX6_findsWay 68 = .ok (.irem, 1) := dk_112 (dk_at dksX6_findsWay_2 20 rfl rfl)
theorem dX6_findsWay_69 : decode cX6_findsWay 69 = .ok (.iconst 1, 1) := dk_4 (dk_at dksX6_findsWay_2 21 rfl rfl)
theorem dX6_findsWay_70 : decode cX6_findsWay 70 = .ok (.if_icmp .ne 7, 3) := dk_160 0 7 (dk_at dksX6_findsWay_3 0 rfl rfl)
theorem dX6_findsWay_73 : decode cX6_findsWay 73 = .ok (.iconst 1, 1) := dk_4 (dk_at dksX6_findsWay_3 3 rfl rfl)
theorem dX6_findsWay_74 : decode cX6_findsWay 74 = .ok (.goto 4, 3) := dk_167 0 4 (dk_at dksX6_findsWay_3 4 rfl rfl)
theorem dX6_findsWay_77 : decode cX6_findsWay 77 = .ok (.iconst 0, 1) := dk_3 (dk_at dksX6_findsWay_3 7 rfl rfl)
theorem dX6_findsWay_78 : decode cX6_findsWay 78 = .ok (.istore 5, 2) := dk_54 5 (dk_at dksX6_findsWay_3 8 rfl rfl)
theorem dX6_findsWay_80 : decode cX6_findsWay 80 = .ok (.iload 4, 2) := dk_21 4 (dk_at dksX6_findsWay_3 10 rfl rfl)
theorem dX6_findsWay_82 : decode cX6_findsWay 82 = .ok (.iload_n 2, 1) := dk_28 (dk_at dksX6_findsWay_3 12 rfl rfl)
theorem dX6_findsWay_83 : decode cX6_findsWay 83 = .ok (.if_icmp .ne 5, 3) := dk_160 0 5 (dk_at dksX6_findsWay_3 13 rfl rfl)
theorem dX6_findsWay_86 : decode cX6_findsWay 86 = .ok (.iconst 1, 1) := dk_4 (dk_at dksX6_findsWay_3 16 rfl rfl)
theorem dX6_findsWay_87 : decode cX6_findsWay 87 = .ok (.ireturn, 1) := dk_172 (dk_at dksX6_findsWay_3 17 rfl rfl)
theorem dX6_findsWay_88 : decode cX6_findsWay 88 = .ok (.iload 4, 2) := dk_21 4 (dk_at dksX6_findsWay_3 18 rfl rfl)
theorem dX6_findsWay_90 : decode cX6_findsWay 90 = .ok (.iload_n 1, 1) := dk_27 (dk_at dksX6_findsWay_3 20 rfl rfl)
theorem dX6_findsWay_91 : decode cX6_findsWay 91 = .ok (.if_icmp .eq 18, 3) := dk_159 0 18 (dk_at dksX6_findsWay_3 21 rfl rfl)
theorem dX6_findsWay_94 : decode cX6_findsWay 94 = .ok (.aload_n 0, 1) := dk_42 (dk_at dksX6_findsWay_4 0 rfl rfl)
theorem dX6_findsWay_95 : decode cX6_findsWay 95 = .ok (.getfield 84, 3) := dk_180 0 84 (dk_at dksX6_findsWay_4 1 rfl rfl)
theorem dX6_findsWay_98 : decode cX6_findsWay 98 = .ok (.iload 4, 2) := dk_21 4 (dk_at dksX6_findsWay_4 4 rfl rfl)
theorem dX6_findsWay_100 : decode cX6_findsWay 100 = .ok (.iaload, 1) := dk_46 (dk_at dksX6_findsWay_4 6 rfl rfl)
theorem dX6_findsWay_101 : decode cX6_findsWay 101 = .ok (.iconst (-1), 1) := dk_2 (dk_at dksX6_findsWay_4 7 rfl rfl)
theorem dX6_findsWay_102 : decode cX6_findsWay 102 = .ok (.if_icmp .eq 7, 3) := dk_159 0 7 (dk_at dksX6_findsWay_4 8 rfl rfl)
theorem dX6_findsWay_105 : decode cX6_findsWay 105 = .ok (.iconst 1, 1) := dk_4 (dk_at dksX6_findsWay_4 11 rfl rfl)
theorem dX6_findsWay_106 : decode cX6_findsWay 106 = .ok (.goto 4, 3) := dk_167 0 4 (dk_at dksX6_findsWay_4 12 rfl rfl)
theorem dX6_findsWay_109 : decode cX6_findsWay 109 = .ok (.iconst 0, 1) := dk_3 (dk_at dksX6_findsWay_4 15 rfl rfl)
theorem dX6_findsWay_110 : decode cX6_findsWay 110 = .ok (.istore 6, 2) := dk_54 6 (dk_at dksX6_findsWay_4 16 rfl rfl)
theorem dX6_findsWay_112 : decode cX6_findsWay 112 = .ok (.iload 5, 2) := dk_21 5 (dk_at dksX6_findsWay_4 18 rfl rfl)
theorem dX6_findsWay_114 : decode cX6_findsWay 114 = .ok (.ifCond .eq 107, 3) := dk_153 0 107 (dk_at dksX6_findsWay_4 20 rfl rfl)
theorem dX6_findsWay_117 : decode cX6_findsWay 117 = .ok (.iconst 0, 1) := dk_3 (dk_at dksX6_findsWay_4 23 rfl rfl)
theorem dX6_findsWay_118 : decode cX6_findsWay 118 = .ok (.istore 7, 2) := dk_54 7 (dk_at dksX6_findsWay_5 0 rfl rfl)
theorem dX6_findsWay_120 : decode cX6_findsWay 120 = .ok (.iload 7, 2) := dk_21 7 (dk_at dksX6_findsWay_5 2 rfl rfl)
theorem dX6_findsWay_122 : decode cX6_findsWay 122 = .ok (.iconst 4, 1) := dk_7 (dk_at dksX6_findsWay_5 4 rfl rfl)
theorem dX6_findsWay_123 : decode cX6_findsWay 123 = .ok (.if_icmp .ge 76, 3) := dk_162 0 76 (dk_at dksX6_findsWay_5 5 rfl rfl)
theorem dX6_findsWay_126 : decode cX6_findsWay 126 = .ok (.iload 4, 2) := dk_21 4 (dk_at dksX6_findsWay_5 8 rfl rfl)
theorem dX6_findsWay_128 : decode cX6_findsWay 128 = .ok (.iload 7, 2) := dk_21 7 (dk_at dksX6_findsWay_5 10 rfl rfl)
theorem dX6_findsWay_130 : decode cX6_findsWay 130 = .ok (.invokestatic 281, 3) := dk_184 1 25 (dk_at dksX6_findsWay_5 12 rfl rfl)
theorem dX6_findsWay_133 : decode cX6_findsWay 133 = .ok (.istore 8, 2) := dk_54 8 (dk_at dksX6_findsWay_5 15 rfl rfl)
theorem dX6_findsWay_135 : decode cX6_findsWay 135 = .ok (.aload_n 0, 1) := dk_42 (dk_at dksX6_findsWay_5 17 rfl rfl)
theorem dX6_findsWay_136 : decode cX6_findsWay 136 = .ok (.iload 8, 2) := dk_21 8 (dk_at dksX6_findsWay_5 18 rfl rfl)
theorem dX6_findsWay_138 : decode cX6_findsWay 138 = .ok (.invokevirtual 241, 3) := dk_182 0 241 (dk_at dksX6_findsWay_5 20 rfl rfl)
theorem dX6_findsWay_141 : decode cX6_findsWay 141 = .ok (.ifCond .eq 52, 3) := dk_153 0 52 (dk_at dksX6_findsWay_6 0 rfl rfl)
theorem dX6_findsWay_144 : decode cX6_findsWay 144 = .ok (.iload 8, 2) := dk_21 8 (dk_at dksX6_findsWay_6 3 rfl rfl)
theorem dX6_findsWay_146 : decode cX6_findsWay 146 = .ok (.iload_n 1, 1) := dk_27 (dk_at dksX6_findsWay_6 5 rfl rfl)
theorem dX6_findsWay_147 : decode cX6_findsWay 147 = .ok (.if_icmp .eq 46, 3) := dk_159 0 46 (dk_at dksX6_findsWay_6 6 rfl rfl)
theorem dX6_findsWay_150 : decode cX6_findsWay 150 = .ok (.aload_n 0, 1) := dk_42 (dk_at dksX6_findsWay_6 9 rfl rfl)
theorem dX6_findsWay_151 : decode cX6_findsWay 151 = .ok (.getfield 81, 3) := dk_180 0 81 (dk_at dksX6_findsWay_6 10 rfl rfl)
theorem dX6_findsWay_154 : decode cX6_findsWay 154 = .ok (.iload 4, 2) := dk_21 4 (dk_at dksX6_findsWay_6 13 rfl rfl)
theorem dX6_findsWay_156 : decode cX6_findsWay 156 = .ok (.iaload, 1) := dk_46 (dk_at dksX6_findsWay_6 15 rfl rfl)
theorem dX6_findsWay_157 : decode cX6_findsWay 157 = .ok (.iload 8, 2) := dk_21 8 (dk_at dksX6_findsWay_6 16 rfl rfl)
theorem dX6_findsWay_159 : decode cX6_findsWay 159 = .ok (.if_icmp .eq 34, 3) := dk_159 0 34 (dk_at dksX6_findsWay_6 18 rfl rfl)
theorem dX6_findsWay_162 : decode cX6_findsWay 162 = .ok (.iload 4, 2) := dk_21 4 (dk_at dksX6_findsWay_6 21 rfl rfl)
theorem dX6_findsWay_164 : decode cX6_findsWay 164 = .ok (.iload_n 1, 1) := dk_27 (dk_at dksX6_findsWay_6 23 rfl rfl)
theorem dX6_findsWay_165 : decode cX6_findsWay 165 = .ok (.if_icmp .ne 14, 3) := dk_160 0 14 (dk_at dksX6_findsWay_7 0 rfl rfl)
theorem dX6_findsWay_168 : decode cX6_findsWay 168 = .ok (.aload_n 0, 1) := dk_42 (dk_at dksX6_findsWay_7 3 rfl rfl)
theorem dX6_findsWay_169 : decode cX6_findsWay 169 = .ok (.getfield 84, 3) := dk_180 0 84 (dk_at dksX6_findsWay_7 4 rfl rfl)
theorem dX6_findsWay_172 : decode cX6_findsWay 172 = .ok (.iload 8, 2) := dk_21 8 (dk_at dksX6_findsWay_7 7 rfl rfl)
theorem dX6_findsWay_174 : decode cX6_findsWay 174 = .ok (.iaload, 1) := dk_46 (dk_at dksX6_findsWay_7 9 rfl rfl)
theorem dX6_findsWay_175 : decode cX6_findsWay 175 = .ok (.iload_n 1, 1) := dk_27 (dk_at dksX6_findsWay_7 10 rfl rfl)
theorem dX6_findsWay_176 : decode cX6_findsWay 176 = .ok (.if_icmp .eq 17, 3) := dk_159 0 17 (dk_at dksX6_findsWay_7 11 rfl rfl)
theorem dX6_findsWay_179 : decode cX6_findsWay 179 = .ok (.aload_n 0, 1) := dk_42 (dk_at dksX6_findsWay_7 14 rfl rfl)
theorem dX6_findsWay_180 : decode cX6_findsWay 180 = .ok (.iconst 2, 1) := dk_5 (dk_at dksX6_findsWay_7 15 rfl rfl)
theorem dX6_findsWay_181 : decode cX6_findsWay 181 = .ok (.iload 8, 2) := dk_21 8 (dk_at dksX6_findsWay_7 16 rfl rfl)
theorem dX6_findsWay_183 : decode cX6_findsWay 183 = .ok (.imul, 1) := dk_104 (dk_at dksX6_findsWay_7 18 rfl rfl)
theorem dX6_findsWay_184 : decode cX6_findsWay 184 = .ok (.aload_n 0, 1) := dk_42 (dk_at dksX6_findsWay_7 19 rfl rfl)
theorem dX6_findsWay_185 : decode cX6_findsWay 185 = .ok (.getfield 78, 3) := dk_180 0 78 (dk_at dksX6_findsWay_7 20 rfl rfl)
theorem dX6_findsWay_188 : decode cX6_findsWay 188 = .ok (.iload_n 3, 1) := dk_29 (dk_at dksX6_findsWay_7 23 rfl rfl)
theorem dX6_findsWay_189 : decode cX6_findsWay 189 = .ok (.iaload, 1) := dk_46 (dk_at dksX6_findsWay_8 0 rfl rfl)
theorem dX6_findsWay_190 : decode cX6_findsWay 190 = .ok (.invokevirtual 352, 3) := dk_182 1 96 (dk_at dksX6_findsWay_8 1 rfl rfl)
theorem dX6_findsWay_193 : decode cX6_findsWay 193 = .ok (.iinc 7 1, 3) := dk_132 7 1 (dk_at dksX6_findsWay_8 4 rfl rfl)
theorem dX6_findsWay_196 : decode cX6_findsWay 196 = .ok (.goto (-76), 3) := dk_167 255 180 (dk_at dksX6_findsWay_8 7 rfl rfl)
theorem dX6_findsWay_199 : decode cX6_findsWay 199 = .ok (.iload 6, 2) := dk_21 6 (dk_at dksX6_findsWay_8 10 rfl rfl)
theorem dX6_findsWay_201 : decode cX6_findsWay 201 = .ok (.ifCond .eq 65, 3) := dk_153 0 65 (dk_at dksX6_findsWay_8 12 rfl rfl)
theorem dX6_findsWay_204 : decode cX6_findsWay 204 = .ok (.aload_n 0, 1) := dk_42 (dk_at dksX6_findsWay_8 15 rfl rfl)
theorem dX6_findsWay_205 : decode cX6_findsWay 205 = .ok (.iconst 2, 1) := dk_5 (dk_at dksX6_findsWay_8 16 rfl rfl)
theorem dX6_findsWay_206 : decode cX6_findsWay 206 = .ok (.iload 4, 2) := dk_21 4 (dk_at dksX6_findsWay_8 17 rfl rfl)
theorem dX6_findsWay_208 : decode cX6_findsWay 208 = .ok (.imul, 1) := dk_104 (dk_at dksX6_findsWay_8 19 rfl rfl)
theorem dX6_findsWay_209 : decode cX6_findsWay 209 = .ok (.aload_n 0, 1) := dk_42 (dk_at dksX6_findsWay_8 20 rfl rfl)
theorem dX6_findsWay_210 : decode cX6_findsWay 210 = .ok (.getfield 78, 3) := dk_180 0 78 (dk_at dksX6_findsWay_8 21 rfl rfl)
theorem dX6_findsWay_213 : decode cX6_findsWay 213 = .ok (.iload_n 3, 1) := dk_29 (dk_at dksX6_findsWay_9 0 rfl rfl)
theorem dX6_findsWay_214 : decode cX6_findsWay 214 = .ok (.iaload, 1) := dk_46 (dk_at dksX6_findsWay_9 1 rfl rfl)
theorem dX6_findsWay_215 : decode cX6_findsWay 215 = .ok (.invokevirtual 352, 3) := dk_182 1 96 (dk_at dksX6_findsWay_9 2 rfl rfl)
theorem dX6_findsWay_218 : decode cX6_findsWay 218 = .ok (.goto 48, 3) := dk_167 0 48 (dk_at dksX6_findsWay_9 5 rfl rfl)
theorem dX6_findsWay_221 : decode cX6_findsWay 221 = .ok (.iload 6, 2) := dk_21 6 (dk_at dksX6_findsWay_9 8 rfl rfl)
theorem dX6_findsWay_223 : decode cX6_findsWay 223 = .ok (.ifCond .eq 27, 3) := dk_153 0 27 (dk_at dksX6_findsWay_9 10 rfl rfl)
theorem dX6_findsWay_226 : decode cX6_findsWay 226 = .ok (.aload_n 0, 1) := dk_42 (dk_at dksX6_findsWay_9 13 rfl rfl)
theorem dX6_findsWay_227 : decode cX6_findsWay 227 = .ok (.iconst 2, 1) := dk_5 (dk_at dksX6_findsWay_9 14 rfl rfl)
theorem dX6_findsWay_228 : decode cX6_findsWay 228 = .ok (.aload_n 0, 1) := dk_42 (dk_at dksX6_findsWay_9 15 rfl rfl)
theorem dX6_findsWay_229 : decode cX6_findsWay 229 = .ok (.getfield 84, 3) := dk_180 0 84 (dk_at dksX6_findsWay_9 16 rfl rfl)
theorem dX6_findsWay_232 : decode cX6_findsWay 232 = .ok (.iload 4, 2) := dk_21 4 (dk_at dksX6_findsWay_9 19 rfl rfl)
theorem dX6_findsWay_234 : decode cX6_findsWay 234 = .ok (.iaload, 1) := dk_46 (dk_at dksX6_findsWay_9 21 rfl rfl)
theorem dX6_findsWay_235 : decode cX6_findsWay 235 = .ok (.imul, 1) := dk_104 (dk_at dksX6_findsWay_9 22 rfl rfl)
theorem dX6_findsWay_236 : decode cX6_findsWay 236 = .ok (.iconst 1, 1) := dk_4 (dk_at dksX6_findsWay_9 23 rfl rfl)
theorem dX6_findsWay_237 : decode cX6_findsWay 237 = .ok (.iadd, 1) := dk_96 (dk_at dksX6_findsWay_10 0 rfl rfl)
theorem dX6_findsWay_238 : decode cX6_findsWay 238 = .ok (.aload_n 0, 1) := dk_42 (dk_at dksX6_findsWay_10 1 rfl rfl)
theorem dX6_findsWay_239 : decode cX6_findsWay 239 = .ok (.getfield 78, 3) := dk_180 0 78 (dk_at dksX6_findsWay_10 2 rfl rfl)
theorem dX6_findsWay_242 : decode cX6_findsWay 242 = .ok (.iload_n 3, 1) := dk_29 (dk_at dksX6_findsWay_10 5 rfl rfl)
theorem dX6_findsWay_243 : decode cX6_findsWay 243 = .ok (.iaload, 1) := dk_46 (dk_at dksX6_findsWay_10 6 rfl rfl)
theorem dX6_findsWay_244 : decode cX6_findsWay 244 = .ok (.invokevirtual 352, 3) := dk_182 1 96 (dk_at dksX6_findsWay_10 7 rfl rfl)
theorem dX6_findsWay_247 : decode cX6_findsWay 247 = .ok (.goto 19, 3) := dk_167 0 19 (dk_at dksX6_findsWay_10 10 rfl rfl)
theorem dX6_findsWay_250 : decode cX6_findsWay 250 = .ok (.aload_n 0, 1) := dk_42 (dk_at dksX6_findsWay_10 13 rfl rfl)
theorem dX6_findsWay_251 : decode cX6_findsWay 251 = .ok (.iconst 2, 1) := dk_5 (dk_at dksX6_findsWay_10 14 rfl rfl)
theorem dX6_findsWay_252 : decode cX6_findsWay 252 = .ok (.iload 4, 2) := dk_21 4 (dk_at dksX6_findsWay_10 15 rfl rfl)
theorem dX6_findsWay_254 : decode cX6_findsWay 254 = .ok (.imul, 1) := dk_104 (dk_at dksX6_findsWay_10 17 rfl rfl)
theorem dX6_findsWay_255 : decode cX6_findsWay 255 = .ok (.iconst 1, 1) := dk_4 (dk_at dksX6_findsWay_10 18 rfl rfl)
theorem dX6_findsWay_256 : decode cX6_findsWay 256 = .ok (.iadd, 1) := dk_96 (dk_at dksX6_findsWay_10 19 rfl rfl)
theorem dX6_findsWay_257 : decode cX6_findsWay 257 = .ok (.aload_n 0, 1) := dk_42 (dk_at dksX6_findsWay_10 20 rfl rfl)
theorem dX6_findsWay_258 : decode cX6_findsWay 258 = .ok (.getfield 78, 3) := dk_180 0 78 (dk_at dksX6_findsWay_10 21 rfl rfl)
theorem dX6_findsWay_261 : decode cX6_findsWay 261 = .ok (.iload_n 3, 1) := dk_29 (dk_at dksX6_findsWay_11 0 rfl rfl)
theorem dX6_findsWay_262 : decode cX6_findsWay 262 = .ok (.iaload, 1) := dk_46 (dk_at dksX6_findsWay_11 1 rfl rfl)
theorem dX6_findsWay_263 : decode cX6_findsWay 263 = .ok (.invokevirtual 352, 3) := dk_182 1 96 (dk_at dksX6_findsWay_11 2 rfl rfl)
theorem dX6_findsWay_266 : decode cX6_findsWay 266 = .ok (.iinc 3 1, 3) := dk_132 3 1 (dk_at dksX6_findsWay_11 5 rfl rfl)
theorem dX6_findsWay_269 : decode cX6_findsWay 269 = .ok (.goto (-226), 3) := dk_167 255 30 (dk_at dksX6_findsWay_11 8 rfl rfl)
theorem dX6_findsWay_272 : decode cX6_findsWay 272 = .ok (.iconst 0, 1) := dk_3 (dk_at dksX6_findsWay_11 11 rfl rfl)
theorem dX6_findsWay_273 : decode cX6_findsWay 273 = .ok (.ireturn, 1) := dk_172 (dk_at dksX6_findsWay_11 12 rfl rfl)
abbrev cX6_visits : ByteArray := prog_20_method_84_code
def yX6_visits : MethodName := ⟨RX6, "visits", "(II)V"⟩
def dkwX6_visits_1 : List UInt8 := [180, 1, 93, 27, 79, 42, 42, 180, 1, 93, 4, 96, 181, 1, 93, 177]
abbrev dktX6_visits_1 : List UInt8 := dkwX6_visits_1 ++ []
def dkwX6_visits_0 : List UInt8 := [42, 180, 0, 87, 27, 46, 2, 159, 0, 4, 177, 42, 180, 0, 87, 27, 28, 79, 42, 180, 0, 78, 42]
abbrev dktX6_visits_0 : List UInt8 := dkwX6_visits_0 ++ dktX6_visits_1
theorem dksX6_visits_0 : cX6_visits.data.toList.drop 0 = dktX6_visits_0 := by decide +kernel
theorem dksX6_visits_1 : cX6_visits.data.toList.drop 23 = dktX6_visits_1 := dk_seg dksX6_visits_0 23 rfl rfl
theorem dX6_visits_0 : decode cX6_visits 0 = .ok (.aload_n 0, 1) := dk_42 (dk_at dksX6_visits_0 0 rfl rfl)
theorem dX6_visits_1 : decode cX6_visits 1 = .ok (.getfield 87, 3) := dk_180 0 87 (dk_at dksX6_visits_0 1 rfl rfl)
theorem dX6_visits_4 : decode cX6_visits 4 = .ok (.iload_n 1, 1) := dk_27 (dk_at dksX6_visits_0 4 rfl rfl)
theorem dX6_visits_5 : decode cX6_visits 5 = .ok (.iaload, 1) := dk_46 (dk_at dksX6_visits_0 5 rfl rfl)
theorem dX6_visits_6 : decode cX6_visits 6 = .ok (.iconst (-1), 1) := dk_2 (dk_at dksX6_visits_0 6 rfl rfl)
theorem dX6_visits_7 : decode cX6_visits 7 = .ok (.if_icmp .eq 4, 3) := dk_159 0 4 (dk_at dksX6_visits_0 7 rfl rfl)
theorem dX6_visits_10 : decode cX6_visits 10 = .ok (.return_, 1) := dk_177 (dk_at dksX6_visits_0 10 rfl rfl)
theorem dX6_visits_11 : decode cX6_visits 11 = .ok (.aload_n 0, 1) := dk_42 (dk_at dksX6_visits_0 11 rfl rfl)
theorem dX6_visits_12 : decode cX6_visits 12 = .ok (.getfield 87, 3) := dk_180 0 87 (dk_at dksX6_visits_0 12 rfl rfl)
theorem dX6_visits_15 : decode cX6_visits 15 = .ok (.iload_n 1, 1) := dk_27 (dk_at dksX6_visits_0 15 rfl rfl)
theorem dX6_visits_16 : decode cX6_visits 16 = .ok (.iload_n 2, 1) := dk_28 (dk_at dksX6_visits_0 16 rfl rfl)
theorem dX6_visits_17 : decode cX6_visits 17 = .ok (.iastore, 1) := dk_79 (dk_at dksX6_visits_0 17 rfl rfl)
theorem dX6_visits_18 : decode cX6_visits 18 = .ok (.aload_n 0, 1) := dk_42 (dk_at dksX6_visits_0 18 rfl rfl)
theorem dX6_visits_19 : decode cX6_visits 19 = .ok (.getfield 78, 3) := dk_180 0 78 (dk_at dksX6_visits_0 19 rfl rfl)
theorem dX6_visits_22 : decode cX6_visits 22 = .ok (.aload_n 0, 1) := dk_42 (dk_at dksX6_visits_0 22 rfl rfl)
theorem dX6_visits_23 : decode cX6_visits 23 = .ok (.getfield 349, 3) := dk_180 1 93 (dk_at dksX6_visits_1 0 rfl rfl)
theorem dX6_visits_26 : decode cX6_visits 26 = .ok (.iload_n 1, 1) := dk_27 (dk_at dksX6_visits_1 3 rfl rfl)
theorem dX6_visits_27 : decode cX6_visits 27 = .ok (.iastore, 1) := dk_79 (dk_at dksX6_visits_1 4 rfl rfl)
theorem dX6_visits_28 : decode cX6_visits 28 = .ok (.aload_n 0, 1) := dk_42 (dk_at dksX6_visits_1 5 rfl rfl)
theorem dX6_visits_29 : decode cX6_visits 29 = .ok (.aload_n 0, 1) := dk_42 (dk_at dksX6_visits_1 6 rfl rfl)
theorem dX6_visits_30 : decode cX6_visits 30 = .ok (.getfield 349, 3) := dk_180 1 93 (dk_at dksX6_visits_1 7 rfl rfl)
theorem dX6_visits_33 : decode cX6_visits 33 = .ok (.iconst 1, 1) := dk_4 (dk_at dksX6_visits_1 10 rfl rfl)
theorem dX6_visits_34 : decode cX6_visits 34 = .ok (.iadd, 1) := dk_96 (dk_at dksX6_visits_1 11 rfl rfl)
theorem dX6_visits_35 : decode cX6_visits 35 = .ok (.putfield 349, 3) := dk_181 1 93 (dk_at dksX6_visits_1 12 rfl rfl)
theorem dX6_visits_38 : decode cX6_visits 38 = .ok (.return_, 1) := dk_177 (dk_at dksX6_visits_1 15 rfl rfl)
abbrev cX6_goesAlong : ByteArray := prog_20_method_87_code
def yX6_goesAlong : MethodName := ⟨RX6, "goesAlong", "(II)V"⟩
def dkwX6_goesAlong_10 : List UInt8 := [42, 180, 0, 84, 21, 7, 5, 108, 21, 6, 5, 108, 79, 132, 5, 255, 167, 255, 157, 177]
abbrev dktX6_goesAlong_10 : List UInt8 := dkwX6_goesAlong_10 ++ []
def dkwX6_goesAlong_9 : List UInt8 := [159, 0, 16, 42, 180, 0, 81, 21, 6, 5, 108, 21, 7, 5, 108, 79, 21, 7, 5, 108, 28, 159, 0, 16]
abbrev dktX6_goesAlong_9 : List UInt8 := dkwX6_goesAlong_9 ++ dktX6_goesAlong_10
def dkwX6_goesAlong_8 : List UInt8 := [159, 0, 59, 21, 6, 5, 108, 21, 7, 5, 108, 160, 0, 6, 167, 0, 45, 21, 6, 5, 108, 27]
abbrev dktX6_goesAlong_8 : List UInt8 := dkwX6_goesAlong_8 ++ dktX6_goesAlong_9
def dkwX6_goesAlong_7 : List UInt8 := [180, 0, 90, 21, 5, 4, 100, 46, 54, 7, 21, 6, 5, 112, 153, 0, 67, 21, 7, 5, 112, 4]
abbrev dktX6_goesAlong_7 : List UInt8 := dkwX6_goesAlong_7 ++ dktX6_goesAlong_8
def dkwX6_goesAlong_6 : List UInt8 := [132, 5, 255, 167, 255, 163, 29, 54, 5, 21, 5, 158, 0, 100, 42, 180, 0, 90, 21, 5, 46, 54, 6, 42]
abbrev dktX6_goesAlong_6 : List UInt8 := dkwX6_goesAlong_6 ++ dktX6_goesAlong_7
def dkwX6_goesAlong_5 : List UInt8 := [160, 0, 13, 42, 180, 0, 81, 21, 7, 5, 108, 2, 79, 42, 180, 0, 84, 21, 6, 5, 108, 2, 79]
abbrev dktX6_goesAlong_5 : List UInt8 := dkwX6_goesAlong_5 ++ dktX6_goesAlong_6
def dkwX6_goesAlong_4 : List UInt8 := [21, 7, 5, 108, 160, 0, 6, 167, 0, 39, 42, 180, 0, 81, 21, 7, 5, 108, 46, 21, 6, 5, 108]
abbrev dktX6_goesAlong_4 : List UInt8 := dkwX6_goesAlong_4 ++ dktX6_goesAlong_5
def dkwX6_goesAlong_3 : List UInt8 := [4, 100, 46, 54, 7, 21, 6, 5, 112, 4, 159, 0, 60, 21, 7, 5, 112, 153, 0, 53, 21, 6, 5, 108]
abbrev dktX6_goesAlong_3 : List UInt8 := dkwX6_goesAlong_3 ++ dktX6_goesAlong_4
def dkwX6_goesAlong_2 : List UInt8 := [79, 29, 54, 5, 21, 5, 158, 0, 94, 42, 180, 0, 90, 21, 5, 46, 54, 6, 42, 180, 0, 90, 21, 5]
abbrev dktX6_goesAlong_2 : List UInt8 := dkwX6_goesAlong_2 ++ dktX6_goesAlong_3
def dkwX6_goesAlong_1 : List UInt8 := [79, 29, 4, 96, 62, 42, 180, 0, 87, 21, 4, 46, 54, 4, 167, 255, 225, 42, 180, 0, 90, 29, 21, 4]
abbrev dktX6_goesAlong_1 : List UInt8 := dkwX6_goesAlong_1 ++ dktX6_goesAlong_2
def dkwX6_goesAlong_0 : List UInt8 := [3, 62, 5, 28, 104, 54, 4, 21, 4, 5, 27, 104, 4, 96, 159, 0, 27, 42, 180, 0, 90, 29, 21, 4]
abbrev dktX6_goesAlong_0 : List UInt8 := dkwX6_goesAlong_0 ++ dktX6_goesAlong_1
theorem dksX6_goesAlong_0 : cX6_goesAlong.data.toList.drop 0 = dktX6_goesAlong_0 := by decide +kernel
theorem dksX6_goesAlong_1 : cX6_goesAlong.data.toList.drop 24 = dktX6_goesAlong_1 := dk_seg dksX6_goesAlong_0 24 rfl rfl
theorem dksX6_goesAlong_2 : cX6_goesAlong.data.toList.drop 48 = dktX6_goesAlong_2 := dk_seg dksX6_goesAlong_1 24 rfl rfl
theorem dksX6_goesAlong_3 : cX6_goesAlong.data.toList.drop 72 = dktX6_goesAlong_3 := dk_seg dksX6_goesAlong_2 24 rfl rfl
theorem dksX6_goesAlong_4 : cX6_goesAlong.data.toList.drop 96 = dktX6_goesAlong_4 := dk_seg dksX6_goesAlong_3 24 rfl rfl
theorem dksX6_goesAlong_5 : cX6_goesAlong.data.toList.drop 119 = dktX6_goesAlong_5 := dk_seg dksX6_goesAlong_4 23 rfl rfl
theorem dksX6_goesAlong_6 : cX6_goesAlong.data.toList.drop 142 = dktX6_goesAlong_6 := dk_seg dksX6_goesAlong_5 23 rfl rfl
theorem dksX6_goesAlong_7 : cX6_goesAlong.data.toList.drop 166 = dktX6_goesAlong_7 := dk_seg dksX6_goesAlong_6 24 rfl rfl
theorem dksX6_goesAlong_8 : cX6_goesAlong.data.toList.drop 188 = dktX6_goesAlong_8 := dk_seg dksX6_goesAlong_7 22 rfl rfl
theorem dksX6_goesAlong_9 : cX6_goesAlong.data.toList.drop 210 = dktX6_goesAlong_9 := dk_seg dksX6_goesAlong_8 22 rfl rfl
theorem dksX6_goesAlong_10 : cX6_goesAlong.data.toList.drop 234 = dktX6_goesAlong_10 := dk_seg dksX6_goesAlong_9 24 rfl rfl
theorem dX6_goesAlong_0 : decode cX6_goesAlong 0 = .ok (.iconst 0, 1) := dk_3 (dk_at dksX6_goesAlong_0 0 rfl rfl)
theorem dX6_goesAlong_1 : decode cX6_goesAlong 1 = .ok (.istore_n 3, 1) := dk_62 (dk_at dksX6_goesAlong_0 1 rfl rfl)
theorem dX6_goesAlong_2 : decode cX6_goesAlong 2 = .ok (.iconst 2, 1) := dk_5 (dk_at dksX6_goesAlong_0 2 rfl rfl)
theorem dX6_goesAlong_3 : decode cX6_goesAlong 3 = .ok (.iload_n 2, 1) := dk_28 (dk_at dksX6_goesAlong_0 3 rfl rfl)
theorem dX6_goesAlong_4 : decode cX6_goesAlong 4 = .ok (.imul, 1) := dk_104 (dk_at dksX6_goesAlong_0 4 rfl rfl)
theorem dX6_goesAlong_5 : decode cX6_goesAlong 5 = .ok (.istore 4, 2) := dk_54 4 (dk_at dksX6_goesAlong_0 5 rfl rfl)
theorem dX6_goesAlong_7 : decode cX6_goesAlong 7 = .ok (.iload 4, 2) := dk_21 4 (dk_at dksX6_goesAlong_0 7 rfl rfl)
theorem dX6_goesAlong_9 : decode cX6_goesAlong 9 = .ok (.iconst 2, 1) := dk_5 (dk_at dksX6_goesAlong_0 9 rfl rfl)
theorem dX6_goesAlong_10 : decode cX6_goesAlong 10 = .ok (.iload_n 1, 1) := dk_27 (dk_at dksX6_goesAlong_0 10 rfl rfl)
theorem dX6_goesAlong_11 : decode cX6_goesAlong 11 = .ok (.imul, 1) := dk_104 (dk_at dksX6_goesAlong_0 11 rfl rfl)
theorem dX6_goesAlong_12 : decode cX6_goesAlong 12 = .ok (.iconst 1, 1) := dk_4 (dk_at dksX6_goesAlong_0 12 rfl rfl)
theorem dX6_goesAlong_13 : decode cX6_goesAlong 13 = .ok (.iadd, 1) := dk_96 (dk_at dksX6_goesAlong_0 13 rfl rfl)
theorem dX6_goesAlong_14 : decode cX6_goesAlong 14 = .ok (.if_icmp .eq 27, 3) := dk_159 0 27 (dk_at dksX6_goesAlong_0 14 rfl rfl)
theorem dX6_goesAlong_17 : decode cX6_goesAlong 17 = .ok (.aload_n 0, 1) := dk_42 (dk_at dksX6_goesAlong_0 17 rfl rfl)
theorem dX6_goesAlong_18 : decode cX6_goesAlong 18 = .ok (.getfield 90, 3) := dk_180 0 90 (dk_at dksX6_goesAlong_0 18 rfl rfl)
theorem dX6_goesAlong_21 : decode cX6_goesAlong 21 = .ok (.iload_n 3, 1) := dk_29 (dk_at dksX6_goesAlong_0 21 rfl rfl)
theorem dX6_goesAlong_22 : decode cX6_goesAlong 22 = .ok (.iload 4, 2) := dk_21 4 (dk_at dksX6_goesAlong_0 22 rfl rfl)
theorem dX6_goesAlong_24 : decode cX6_goesAlong 24 = .ok (.iastore, 1) := dk_79 (dk_at dksX6_goesAlong_1 0 rfl rfl)
theorem dX6_goesAlong_25 : decode cX6_goesAlong 25 = .ok (.iload_n 3, 1) := dk_29 (dk_at dksX6_goesAlong_1 1 rfl rfl)
theorem dX6_goesAlong_26 : decode cX6_goesAlong 26 = .ok (.iconst 1, 1) := dk_4 (dk_at dksX6_goesAlong_1 2 rfl rfl)
theorem dX6_goesAlong_27 : decode cX6_goesAlong 27 = .ok (.iadd, 1) := dk_96 (dk_at dksX6_goesAlong_1 3 rfl rfl)
theorem dX6_goesAlong_28 : decode cX6_goesAlong 28 = .ok (.istore_n 3, 1) := dk_62 (dk_at dksX6_goesAlong_1 4 rfl rfl)
theorem dX6_goesAlong_29 : decode cX6_goesAlong 29 = .ok (.aload_n 0, 1) := dk_42 (dk_at dksX6_goesAlong_1 5 rfl rfl)
theorem dX6_goesAlong_30 : decode cX6_goesAlong 30 = .ok (.getfield 87, 3) := dk_180 0 87 (dk_at dksX6_goesAlong_1 6 rfl rfl)
theorem dX6_goesAlong_33 : decode cX6_goesAlong 33 = .ok (.iload 4, 2) := dk_21 4 (dk_at dksX6_goesAlong_1 9 rfl rfl)
theorem dX6_goesAlong_35 : decode cX6_goesAlong 35 = .ok (.iaload, 1) := dk_46 (dk_at dksX6_goesAlong_1 11 rfl rfl)
theorem dX6_goesAlong_36 : decode cX6_goesAlong 36 = .ok (.istore 4, 2) := dk_54 4 (dk_at dksX6_goesAlong_1 12 rfl rfl)
theorem dX6_goesAlong_38 : decode cX6_goesAlong 38 = .ok (.goto (-31), 3) := dk_167 255 225 (dk_at dksX6_goesAlong_1 14 rfl rfl)
theorem dX6_goesAlong_41 : decode cX6_goesAlong 41 = .ok (.aload_n 0, 1) := dk_42 (dk_at dksX6_goesAlong_1 17 rfl rfl)
theorem dX6_goesAlong_42 : decode cX6_goesAlong 42 = .ok (.getfield 90, 3) := dk_180 0 90 (dk_at dksX6_goesAlong_1 18 rfl rfl)
theorem dX6_goesAlong_45 : decode cX6_goesAlong 45 = .ok (.iload_n 3, 1) := dk_29 (dk_at dksX6_goesAlong_1 21 rfl rfl)
theorem dX6_goesAlong_46 : decode cX6_goesAlong 46 = .ok (.iload 4, 2) := dk_21 4 (dk_at dksX6_goesAlong_1 22 rfl rfl)
theorem dX6_goesAlong_48 : decode cX6_goesAlong 48 = .ok (.iastore, 1) := dk_79 (dk_at dksX6_goesAlong_2 0 rfl rfl)
theorem dX6_goesAlong_49 : decode cX6_goesAlong 49 = .ok (.iload_n 3, 1) := dk_29 (dk_at dksX6_goesAlong_2 1 rfl rfl)
theorem dX6_goesAlong_50 : decode cX6_goesAlong 50 = .ok (.istore 5, 2) := dk_54 5 (dk_at dksX6_goesAlong_2 2 rfl rfl)
theorem dX6_goesAlong_52 : decode cX6_goesAlong 52 = .ok (.iload 5, 2) := dk_21 5 (dk_at dksX6_goesAlong_2 4 rfl rfl)
theorem dX6_goesAlong_54 : decode cX6_goesAlong 54 = .ok (.ifCond .le 94, 3) := dk_158 0 94 (dk_at dksX6_goesAlong_2 6 rfl rfl)
theorem dX6_goesAlong_57 : decode cX6_goesAlong 57 = .ok (.aload_n 0, 1) := dk_42 (dk_at dksX6_goesAlong_2 9 rfl rfl)
theorem dX6_goesAlong_58 : decode cX6_goesAlong 58 = .ok (.getfield 90, 3) := dk_180 0 90 (dk_at dksX6_goesAlong_2 10 rfl rfl)
theorem dX6_goesAlong_61 : decode cX6_goesAlong 61 = .ok (.iload 5, 2) := dk_21 5 (dk_at dksX6_goesAlong_2 13 rfl rfl)
theorem dX6_goesAlong_63 : decode cX6_goesAlong 63 = .ok (.iaload, 1) := dk_46 (dk_at dksX6_goesAlong_2 15 rfl rfl)
theorem dX6_goesAlong_64 : decode cX6_goesAlong 64 = .ok (.istore 6, 2) := dk_54 6 (dk_at dksX6_goesAlong_2 16 rfl rfl)
theorem dX6_goesAlong_66 : decode cX6_goesAlong 66 = .ok (.aload_n 0, 1) := dk_42 (dk_at dksX6_goesAlong_2 18 rfl rfl)
theorem dX6_goesAlong_67 : decode cX6_goesAlong 67 = .ok (.getfield 90, 3) := dk_180 0 90 (dk_at dksX6_goesAlong_2 19 rfl rfl)
theorem dX6_goesAlong_70 : decode cX6_goesAlong 70 = .ok (.iload 5, 2) := dk_21 5 (dk_at dksX6_goesAlong_2 22 rfl rfl)
theorem dX6_goesAlong_72 : decode cX6_goesAlong 72 = .ok (.iconst 1, 1) := dk_4 (dk_at dksX6_goesAlong_3 0 rfl rfl)
theorem dX6_goesAlong_73 : decode cX6_goesAlong 73 = .ok (.isub, 1) := dk_100 (dk_at dksX6_goesAlong_3 1 rfl rfl)
theorem dX6_goesAlong_74 : decode cX6_goesAlong 74 = .ok (.iaload, 1) := dk_46 (dk_at dksX6_goesAlong_3 2 rfl rfl)
theorem dX6_goesAlong_75 : decode cX6_goesAlong 75 = .ok (.istore 7, 2) := dk_54 7 (dk_at dksX6_goesAlong_3 3 rfl rfl)
theorem dX6_goesAlong_77 : decode cX6_goesAlong 77 = .ok (.iload 6, 2) := dk_21 6 (dk_at dksX6_goesAlong_3 5 rfl rfl)
theorem dX6_goesAlong_79 : decode cX6_goesAlong 79 = .ok (.iconst 2, 1) := dk_5 (dk_at dksX6_goesAlong_3 7 rfl rfl)
theorem dX6_goesAlong_80 : decode cX6_goesAlong 80 = .ok (.irem, 1) := dk_112 (dk_at dksX6_goesAlong_3 8 rfl rfl)
theorem dX6_goesAlong_81 : decode cX6_goesAlong 81 = .ok (.iconst 1, 1) := dk_4 (dk_at dksX6_goesAlong_3 9 rfl rfl)
theorem dX6_goesAlong_82 : decode cX6_goesAlong 82 = .ok (.if_icmp .eq 60, 3) := dk_159 0 60 (dk_at dksX6_goesAlong_3 10 rfl rfl)
theorem dX6_goesAlong_85 : decode cX6_goesAlong 85 = .ok (.iload 7, 2) := dk_21 7 (dk_at dksX6_goesAlong_3 13 rfl rfl)
theorem dX6_goesAlong_87 : decode cX6_goesAlong 87 = .ok (.iconst 2, 1) := dk_5 (dk_at dksX6_goesAlong_3 15 rfl rfl)
theorem dX6_goesAlong_88 : decode cX6_goesAlong 88 = .ok (.irem, 1) := dk_112 (dk_at dksX6_goesAlong_3 16 rfl rfl)
theorem dX6_goesAlong_89 : decode cX6_goesAlong 89 = .ok (.ifCond .eq 53, 3) := dk_153 0 53 (dk_at dksX6_goesAlong_3 17 rfl rfl)
theorem dX6_goesAlong_92 : decode cX6_goesAlong 92 = .ok (.iload 6, 2) := dk_21 6 (dk_at dksX6_goesAlong_3 20 rfl rfl)
theorem dX6_goesAlong_94 : decode cX6_goesAlong 94 = .ok (.iconst 2, 1) := dk_5 (dk_at dksX6_goesAlong_3 22 rfl rfl)
theorem dX6_goesAlong_95 : decode cX6_goesAlong 95 = .ok (.idiv, 1) := dk_108 (dk_at dksX6_goesAlong_3 23 rfl rfl)
theorem dX6_goesAlong_96 : decode cX6_goesAlong 96 = .ok (.iload 7, 2) := dk_21 7 (dk_at dksX6_goesAlong_4 0 rfl rfl)
theorem dX6_goesAlong_98 : decode cX6_goesAlong 98 = .ok (.iconst 2, 1) := dk_5 (dk_at dksX6_goesAlong_4 2 rfl rfl)
theorem dX6_goesAlong_99 : decode cX6_goesAlong 99 = .ok (.idiv, 1) := dk_108 (dk_at dksX6_goesAlong_4 3 rfl rfl)
theorem dX6_goesAlong_100 : decode cX6_goesAlong 100 = .ok (.if_icmp .ne 6, 3) := dk_160 0 6 (dk_at dksX6_goesAlong_4 4 rfl rfl)
theorem dX6_goesAlong_103 : decode cX6_goesAlong 103 = .ok (.goto 39, 3) := dk_167 0 39 (dk_at dksX6_goesAlong_4 7 rfl rfl)
theorem dX6_goesAlong_106 : decode cX6_goesAlong 106 = .ok (.aload_n 0, 1) := dk_42 (dk_at dksX6_goesAlong_4 10 rfl rfl)
theorem dX6_goesAlong_107 : decode cX6_goesAlong 107 = .ok (.getfield 81, 3) := dk_180 0 81 (dk_at dksX6_goesAlong_4 11 rfl rfl)
theorem dX6_goesAlong_110 : decode cX6_goesAlong 110 = .ok (.iload 7, 2) := dk_21 7 (dk_at dksX6_goesAlong_4 14 rfl rfl)
theorem dX6_goesAlong_112 : decode cX6_goesAlong 112 = .ok (.iconst 2, 1) := dk_5 (dk_at dksX6_goesAlong_4 16 rfl rfl)
theorem dX6_goesAlong_113 : decode cX6_goesAlong 113 = .ok (.idiv, 1) := dk_108 (dk_at dksX6_goesAlong_4 17 rfl rfl)
theorem dX6_goesAlong_114 : decode cX6_goesAlong 114 = .ok (.iaload, 1) := dk_46 (dk_at dksX6_goesAlong_4 18 rfl rfl)
theorem dX6_goesAlong_115 : decode cX6_goesAlong 115 = .ok (.iload 6, 2) := dk_21 6 (dk_at dksX6_goesAlong_4 19 rfl rfl)
theorem dX6_goesAlong_117 : decode cX6_goesAlong 117 = .ok (.iconst 2, 1) := dk_5 (dk_at dksX6_goesAlong_4 21 rfl rfl)
theorem dX6_goesAlong_118 : decode cX6_goesAlong 118 = .ok (.idiv, 1) := dk_108 (dk_at dksX6_goesAlong_4 22 rfl rfl)
theorem dX6_goesAlong_119 : decode cX6_goesAlong 119 = .ok (.if_icmp .ne 13, 3) := dk_160 0 13 (dk_at dksX6_goesAlong_5 0 rfl rfl)
theorem dX6_goesAlong_122 : decode cX6_goesAlong 122 = .ok (.aload_n 0, 1) := dk_42 (dk_at dksX6_goesAlong_5 3 rfl rfl)
theorem dX6_goesAlong_123 : decode cX6_goesAlong 123 = .ok (.getfield 81, 3) := dk_180 0 81 (dk_at dksX6_goesAlong_5 4 rfl rfl)
theorem dX6_goesAlong_126 : decode cX6_goesAlong 126 = .ok (.iload 7, 2) := dk_21 7 (dk_at dksX6_goesAlong_5 7 rfl rfl)
theorem dX6_goesAlong_128 : decode cX6_goesAlong 128 = .ok (.iconst 2, 1) := dk_5 (dk_at dksX6_goesAlong_5 9 rfl rfl)
theorem dX6_goesAlong_129 : decode cX6_goesAlong 129 = .ok (.idiv, 1) := dk_108 (dk_at dksX6_goesAlong_5 10 rfl rfl)
theorem dX6_goesAlong_130 : decode cX6_goesAlong 130 = .ok (.iconst (-1), 1) := dk_2 (dk_at dksX6_goesAlong_5 11 rfl rfl)
theorem dX6_goesAlong_131 : decode cX6_goesAlong 131 = .ok (.iastore, 1) := dk_79 (dk_at dksX6_goesAlong_5 12 rfl rfl)
theorem dX6_goesAlong_132 : decode cX6_goesAlong 132 = .ok (.aload_n 0, 1) := dk_42 (dk_at dksX6_goesAlong_5 13 rfl rfl)
theorem dX6_goesAlong_133 : decode cX6_goesAlong 133 = .ok (.getfield 84, 3) := dk_180 0 84 (dk_at dksX6_goesAlong_5 14 rfl rfl)
theorem dX6_goesAlong_136 : decode cX6_goesAlong 136 = .ok (.iload 6, 2) := dk_21 6 (dk_at dksX6_goesAlong_5 17 rfl rfl)
theorem dX6_goesAlong_138 : decode cX6_goesAlong 138 = .ok (.iconst 2, 1) := dk_5 (dk_at dksX6_goesAlong_5 19 rfl rfl)
theorem dX6_goesAlong_139 : decode cX6_goesAlong 139 = .ok (.idiv, 1) := dk_108 (dk_at dksX6_goesAlong_5 20 rfl rfl)
theorem dX6_goesAlong_140 : decode cX6_goesAlong 140 = .ok (.iconst (-1), 1) := dk_2 (dk_at dksX6_goesAlong_5 21 rfl rfl)
theorem dX6_goesAlong_141 : decode cX6_goesAlong 141 = .ok (.iastore, 1) := dk_79 (dk_at dksX6_goesAlong_5 22 rfl rfl)
theorem dX6_goesAlong_142 : decode cX6_goesAlong 142 = .ok (.iinc 5 (-1), 3) := dk_132 5 255 (dk_at dksX6_goesAlong_6 0 rfl rfl)
theorem dX6_goesAlong_145 : decode cX6_goesAlong 145 = .ok (.goto (-93), 3) := dk_167 255 163 (dk_at dksX6_goesAlong_6 3 rfl rfl)
theorem dX6_goesAlong_148 : decode cX6_goesAlong 148 = .ok (.iload_n 3, 1) := dk_29 (dk_at dksX6_goesAlong_6 6 rfl rfl)
theorem dX6_goesAlong_149 : decode cX6_goesAlong 149 = .ok (.istore 5, 2) := dk_54 5 (dk_at dksX6_goesAlong_6 7 rfl rfl)
theorem dX6_goesAlong_151 : decode cX6_goesAlong 151 = .ok (.iload 5, 2) := dk_21 5 (dk_at dksX6_goesAlong_6 9 rfl rfl)
theorem dX6_goesAlong_153 : decode cX6_goesAlong 153 = .ok (.ifCond .le 100, 3) := dk_158 0 100 (dk_at dksX6_goesAlong_6 11 rfl rfl)
theorem dX6_goesAlong_156 : decode cX6_goesAlong 156 = .ok (.aload_n 0, 1) := dk_42 (dk_at dksX6_goesAlong_6 14 rfl rfl)
theorem dX6_goesAlong_157 : decode cX6_goesAlong 157 = .ok (.getfield 90, 3) := dk_180 0 90 (dk_at dksX6_goesAlong_6 15 rfl rfl)
theorem dX6_goesAlong_160 : decode cX6_goesAlong 160 = .ok (.iload 5, 2) := dk_21 5 (dk_at dksX6_goesAlong_6 18 rfl rfl)
theorem dX6_goesAlong_162 : decode cX6_goesAlong 162 = .ok (.iaload, 1) := dk_46 (dk_at dksX6_goesAlong_6 20 rfl rfl)
theorem dX6_goesAlong_163 : decode cX6_goesAlong 163 = .ok (.istore 6, 2) := dk_54 6 (dk_at dksX6_goesAlong_6 21 rfl rfl)
theorem dX6_goesAlong_165 : decode cX6_goesAlong 165 = .ok (.aload_n 0, 1) := dk_42 (dk_at dksX6_goesAlong_6 23 rfl rfl)
theorem dX6_goesAlong_166 : decode cX6_goesAlong 166 = .ok (.getfield 90, 3) := dk_180 0 90 (dk_at dksX6_goesAlong_7 0 rfl rfl)
theorem dX6_goesAlong_169 : decode cX6_goesAlong 169 = .ok (.iload 5, 2) := dk_21 5 (dk_at dksX6_goesAlong_7 3 rfl rfl)
theorem dX6_goesAlong_171 : decode cX6_goesAlong 171 = .ok (.iconst 1, 1) := dk_4 (dk_at dksX6_goesAlong_7 5 rfl rfl)
theorem dX6_goesAlong_172 : decode cX6_goesAlong 172 = .ok (.isub, 1) := dk_100 (dk_at dksX6_goesAlong_7 6 rfl rfl)
theorem dX6_goesAlong_173 : decode cX6_goesAlong 173 = .ok (.iaload, 1) := dk_46 (dk_at dksX6_goesAlong_7 7 rfl rfl)
theorem dX6_goesAlong_174 : decode cX6_goesAlong 174 = .ok (.istore 7, 2) := dk_54 7 (dk_at dksX6_goesAlong_7 8 rfl rfl)
theorem dX6_goesAlong_176 : decode cX6_goesAlong 176 = .ok (.iload 6, 2) := dk_21 6 (dk_at dksX6_goesAlong_7 10 rfl rfl)
theorem dX6_goesAlong_178 : decode cX6_goesAlong 178 = .ok (.iconst 2, 1) := dk_5 (dk_at dksX6_goesAlong_7 12 rfl rfl)
theorem dX6_goesAlong_179 : decode cX6_goesAlong 179 = .ok (.irem, 1) := dk_112 (dk_at dksX6_goesAlong_7 13 rfl rfl)
theorem dX6_goesAlong_180 : decode cX6_goesAlong 180 = .ok (.ifCond .eq 67, 3) := dk_153 0 67 (dk_at dksX6_goesAlong_7 14 rfl rfl)
theorem dX6_goesAlong_183 : decode cX6_goesAlong 183 = .ok (.iload 7, 2) := dk_21 7 (dk_at dksX6_goesAlong_7 17 rfl rfl)
theorem dX6_goesAlong_185 : decode cX6_goesAlong 185 = .ok (.iconst 2, 1) := dk_5 (dk_at dksX6_goesAlong_7 19 rfl rfl)
theorem dX6_goesAlong_186 : decode cX6_goesAlong 186 = .ok (.irem, 1) := dk_112 (dk_at dksX6_goesAlong_7 20 rfl rfl)
theorem dX6_goesAlong_187 : decode cX6_goesAlong 187 = .ok (.iconst 1, 1) := dk_4 (dk_at dksX6_goesAlong_7 21 rfl rfl)
theorem dX6_goesAlong_188 : decode cX6_goesAlong 188 = .ok (.if_icmp .eq 59, 3) := dk_159 0 59 (dk_at dksX6_goesAlong_8 0 rfl rfl)
theorem dX6_goesAlong_191 : decode cX6_goesAlong 191 = .ok (.iload 6, 2) := dk_21 6 (dk_at dksX6_goesAlong_8 3 rfl rfl)
theorem dX6_goesAlong_193 : decode cX6_goesAlong 193 = .ok (.iconst 2, 1) := dk_5 (dk_at dksX6_goesAlong_8 5 rfl rfl)
theorem dX6_goesAlong_194 : decode cX6_goesAlong 194 = .ok (.idiv, 1) := dk_108 (dk_at dksX6_goesAlong_8 6 rfl rfl)
theorem dX6_goesAlong_195 : decode cX6_goesAlong 195 = .ok (.iload 7, 2) := dk_21 7 (dk_at dksX6_goesAlong_8 7 rfl rfl)
theorem dX6_goesAlong_197 : decode cX6_goesAlong 197 = .ok (.iconst 2, 1) := dk_5 (dk_at dksX6_goesAlong_8 9 rfl rfl)
theorem dX6_goesAlong_198 : decode cX6_goesAlong 198 = .ok (.idiv, 1) := dk_108 (dk_at dksX6_goesAlong_8 10 rfl rfl)
theorem dX6_goesAlong_199 : decode cX6_goesAlong 199 = .ok (.if_icmp .ne 6, 3) := dk_160 0 6 (dk_at dksX6_goesAlong_8 11 rfl rfl)
theorem dX6_goesAlong_202 : decode cX6_goesAlong 202 = .ok (.goto 45, 3) := dk_167 0 45 (dk_at dksX6_goesAlong_8 14 rfl rfl)
theorem dX6_goesAlong_205 : decode cX6_goesAlong 205 = .ok (.iload 6, 2) := dk_21 6 (dk_at dksX6_goesAlong_8 17 rfl rfl)
theorem dX6_goesAlong_207 : decode cX6_goesAlong 207 = .ok (.iconst 2, 1) := dk_5 (dk_at dksX6_goesAlong_8 19 rfl rfl)
theorem dX6_goesAlong_208 : decode cX6_goesAlong 208 = .ok (.idiv, 1) := dk_108 (dk_at dksX6_goesAlong_8 20 rfl rfl)
theorem dX6_goesAlong_209 : decode cX6_goesAlong 209 = .ok (.iload_n 1, 1) := dk_27 (dk_at dksX6_goesAlong_8 21 rfl rfl)
theorem dX6_goesAlong_210 : decode cX6_goesAlong 210 = .ok (.if_icmp .eq 16, 3) := dk_159 0 16 (dk_at dksX6_goesAlong_9 0 rfl rfl)
theorem dX6_goesAlong_213 : decode cX6_goesAlong 213 = .ok (.aload_n 0, 1) := dk_42 (dk_at dksX6_goesAlong_9 3 rfl rfl)
theorem dX6_goesAlong_214 : decode cX6_goesAlong 214 = .ok (.getfield 81, 3) := dk_180 0 81 (dk_at dksX6_goesAlong_9 4 rfl rfl)
theorem dX6_goesAlong_217 : decode cX6_goesAlong 217 = .ok (.iload 6, 2) := dk_21 6 (dk_at dksX6_goesAlong_9 7 rfl rfl)
theorem dX6_goesAlong_219 : decode cX6_goesAlong 219 = .ok (.iconst 2, 1) := dk_5 (dk_at dksX6_goesAlong_9 9 rfl rfl)
theorem dX6_goesAlong_220 : decode cX6_goesAlong 220 = .ok (.idiv, 1) := dk_108 (dk_at dksX6_goesAlong_9 10 rfl rfl)
theorem dX6_goesAlong_221 : decode cX6_goesAlong 221 = .ok (.iload 7, 2) := dk_21 7 (dk_at dksX6_goesAlong_9 11 rfl rfl)
theorem dX6_goesAlong_223 : decode cX6_goesAlong 223 = .ok (.iconst 2, 1) := dk_5 (dk_at dksX6_goesAlong_9 13 rfl rfl)
theorem dX6_goesAlong_224 : decode cX6_goesAlong 224 = .ok (.idiv, 1) := dk_108 (dk_at dksX6_goesAlong_9 14 rfl rfl)
theorem dX6_goesAlong_225 : decode cX6_goesAlong 225 = .ok (.iastore, 1) := dk_79 (dk_at dksX6_goesAlong_9 15 rfl rfl)
theorem dX6_goesAlong_226 : decode cX6_goesAlong 226 = .ok (.iload 7, 2) := dk_21 7 (dk_at dksX6_goesAlong_9 16 rfl rfl)
theorem dX6_goesAlong_228 : decode cX6_goesAlong 228 = .ok (.iconst 2, 1) := dk_5 (dk_at dksX6_goesAlong_9 18 rfl rfl)
theorem dX6_goesAlong_229 : decode cX6_goesAlong 229 = .ok (.idiv, 1) := dk_108 (dk_at dksX6_goesAlong_9 19 rfl rfl)
theorem dX6_goesAlong_230 : decode cX6_goesAlong 230 = .ok (.iload_n 2, 1) := dk_28 (dk_at dksX6_goesAlong_9 20 rfl rfl)
theorem dX6_goesAlong_231 : decode cX6_goesAlong 231 = .ok (.if_icmp .eq 16, 3) := dk_159 0 16 (dk_at dksX6_goesAlong_9 21 rfl rfl)
theorem dX6_goesAlong_234 : decode cX6_goesAlong 234 = .ok (.aload_n 0, 1) := dk_42 (dk_at dksX6_goesAlong_10 0 rfl rfl)
theorem dX6_goesAlong_235 : decode cX6_goesAlong 235 = .ok (.getfield 84, 3) := dk_180 0 84 (dk_at dksX6_goesAlong_10 1 rfl rfl)
theorem dX6_goesAlong_238 : decode cX6_goesAlong 238 = .ok (.iload 7, 2) := dk_21 7 (dk_at dksX6_goesAlong_10 4 rfl rfl)
theorem dX6_goesAlong_240 : decode cX6_goesAlong 240 = .ok (.iconst 2, 1) := dk_5 (dk_at dksX6_goesAlong_10 6 rfl rfl)
theorem dX6_goesAlong_241 : decode cX6_goesAlong 241 = .ok (.idiv, 1) := dk_108 (dk_at dksX6_goesAlong_10 7 rfl rfl)
theorem dX6_goesAlong_242 : decode cX6_goesAlong 242 = .ok (.iload 6, 2) := dk_21 6 (dk_at dksX6_goesAlong_10 8 rfl rfl)
theorem dX6_goesAlong_244 : decode cX6_goesAlong 244 = .ok (.iconst 2, 1) := dk_5 (dk_at dksX6_goesAlong_10 10 rfl rfl)
theorem dX6_goesAlong_245 : decode cX6_goesAlong 245 = .ok (.idiv, 1) := dk_108 (dk_at dksX6_goesAlong_10 11 rfl rfl)
theorem dX6_goesAlong_246 : decode cX6_goesAlong 246 = .ok (.iastore, 1) := dk_79 (dk_at dksX6_goesAlong_10 12 rfl rfl)
theorem dX6_goesAlong_247 : decode cX6_goesAlong 247 = .ok (.iinc 5 (-1), 3) := dk_132 5 255 (dk_at dksX6_goesAlong_10 13 rfl rfl)
theorem dX6_goesAlong_250 : decode cX6_goesAlong 250 = .ok (.goto (-99), 3) := dk_167 255 157 (dk_at dksX6_goesAlong_10 16 rfl rfl)
theorem dX6_goesAlong_253 : decode cX6_goesAlong 253 = .ok (.return_, 1) := dk_177 (dk_at dksX6_goesAlong_10 19 rfl rfl)
abbrev cX6_getsOut : ByteArray := prog_20_method_90_code
def yX6_getsOut : MethodName := ⟨RX6, "getsOut", "(I)I"⟩
def dkwX6_getsOut_9 : List UInt8 := [4, 96, 61, 132, 5, 1, 167, 255, 146, 132, 3, 1, 167, 255, 108, 16, 254, 172]
abbrev dktX6_getsOut_9 : List UInt8 := dkwX6_getsOut_9 ++ []
def dkwX6_getsOut_8 : List UInt8 := [180, 0, 93, 21, 6, 42, 180, 0, 93, 21, 4, 46, 4, 96, 79, 42, 180, 0, 96, 28, 21, 6, 79, 28]
abbrev dktX6_getsOut_8 : List UInt8 := dkwX6_getsOut_8 ++ dktX6_getsOut_9
def dkwX6_getsOut_7 : List UInt8 := [42, 180, 0, 75, 21, 6, 46, 42, 180, 0, 93, 21, 4, 46, 4, 96, 163, 0, 6, 167, 0, 31, 42]
abbrev dktX6_getsOut_7 : List UInt8 := dkwX6_getsOut_7 ++ dktX6_getsOut_8
def dkwX6_getsOut_6 : List UInt8 := [180, 0, 93, 21, 6, 46, 2, 159, 0, 6, 167, 0, 64, 42, 180, 0, 75, 21, 6, 46, 2, 159, 0, 25]
abbrev dktX6_getsOut_6 : List UInt8 := dkwX6_getsOut_6 ++ dktX6_getsOut_7
def dkwX6_getsOut_5 : List UInt8 := [184, 1, 25, 54, 6, 21, 6, 2, 159, 0, 89, 42, 180, 0, 19, 21, 6, 46, 6, 159, 0, 78, 42]
abbrev dktX6_getsOut_5 : List UInt8 := dkwX6_getsOut_5 ++ dktX6_getsOut_6
def dkwX6_getsOut_4 : List UInt8 := [153, 0, 11, 42, 180, 0, 93, 21, 4, 46, 172, 3, 54, 5, 21, 5, 7, 162, 0, 110, 21, 4, 21, 5]
abbrev dktX6_getsOut_4 : List UInt8 := dkwX6_getsOut_4 ++ dktX6_getsOut_5
def dkwX6_getsOut_3 : List UInt8 := [27, 79, 4, 61, 3, 62, 29, 28, 162, 0, 149, 42, 180, 0, 96, 29, 46, 54, 4, 21, 4, 184, 1, 111]
abbrev dktX6_getsOut_3 : List UInt8 := dkwX6_getsOut_3 ++ dktX6_getsOut_4
def dkwX6_getsOut_2 : List UInt8 := [180, 0, 93, 28, 2, 79, 132, 2, 1, 167, 255, 240, 42, 180, 0, 93, 27, 3, 79, 42, 180, 0, 96, 3]
abbrev dktX6_getsOut_2 : List UInt8 := dkwX6_getsOut_2 ++ dktX6_getsOut_3
def dkwX6_getsOut_1 : List UInt8 := [27, 96, 46, 4, 160, 0, 6, 16, 253, 172, 42, 182, 1, 108, 3, 61, 28, 16, 96, 162, 0, 16, 42]
abbrev dktX6_getsOut_1 : List UInt8 := dkwX6_getsOut_1 ++ dktX6_getsOut_2
def dkwX6_getsOut_0 : List UInt8 := [27, 184, 0, 110, 154, 0, 5, 2, 172, 42, 180, 0, 19, 27, 46, 6, 159, 0, 15, 42, 180, 0, 7, 3]
abbrev dktX6_getsOut_0 : List UInt8 := dkwX6_getsOut_0 ++ dktX6_getsOut_1
theorem dksX6_getsOut_0 : cX6_getsOut.data.toList.drop 0 = dktX6_getsOut_0 := by decide +kernel
theorem dksX6_getsOut_1 : cX6_getsOut.data.toList.drop 24 = dktX6_getsOut_1 := dk_seg dksX6_getsOut_0 24 rfl rfl
theorem dksX6_getsOut_2 : cX6_getsOut.data.toList.drop 47 = dktX6_getsOut_2 := dk_seg dksX6_getsOut_1 23 rfl rfl
theorem dksX6_getsOut_3 : cX6_getsOut.data.toList.drop 71 = dktX6_getsOut_3 := dk_seg dksX6_getsOut_2 24 rfl rfl
theorem dksX6_getsOut_4 : cX6_getsOut.data.toList.drop 95 = dktX6_getsOut_4 := dk_seg dksX6_getsOut_3 24 rfl rfl
theorem dksX6_getsOut_5 : cX6_getsOut.data.toList.drop 119 = dktX6_getsOut_5 := dk_seg dksX6_getsOut_4 24 rfl rfl
theorem dksX6_getsOut_6 : cX6_getsOut.data.toList.drop 142 = dktX6_getsOut_6 := dk_seg dksX6_getsOut_5 23 rfl rfl
theorem dksX6_getsOut_7 : cX6_getsOut.data.toList.drop 166 = dktX6_getsOut_7 := dk_seg dksX6_getsOut_6 24 rfl rfl
theorem dksX6_getsOut_8 : cX6_getsOut.data.toList.drop 189 = dktX6_getsOut_8 := dk_seg dksX6_getsOut_7 23 rfl rfl
theorem dksX6_getsOut_9 : cX6_getsOut.data.toList.drop 213 = dktX6_getsOut_9 := dk_seg dksX6_getsOut_8 24 rfl rfl
theorem dX6_getsOut_0 : decode cX6_getsOut 0 = .ok (.iload_n 1, 1) := dk_27 (dk_at dksX6_getsOut_0 0 rfl rfl)
theorem dX6_getsOut_1 : decode cX6_getsOut 1 = .ok (.invokestatic 110, 3) := dk_184 0 110 (dk_at dksX6_getsOut_0 1 rfl rfl)
theorem dX6_getsOut_4 : decode cX6_getsOut 4 = .ok (.ifCond .ne 5, 3) := dk_154 0 5 (dk_at dksX6_getsOut_0 4 rfl rfl)
theorem dX6_getsOut_7 : decode cX6_getsOut 7 = .ok (.iconst (-1), 1) := dk_2 (dk_at dksX6_getsOut_0 7 rfl rfl)
theorem dX6_getsOut_8 : decode cX6_getsOut 8 = .ok (.ireturn, 1) := dk_172 (dk_at dksX6_getsOut_0 8 rfl rfl)
theorem dX6_getsOut_9 : decode cX6_getsOut 9 = .ok (.aload_n 0, 1) := dk_42 (dk_at dksX6_getsOut_0 9 rfl rfl)
theorem dX6_getsOut_10 : decode cX6_getsOut 10 = .ok (.getfield 19, 3) := dk_180 0 19 (dk_at dksX6_getsOut_0 10 rfl rfl)
theorem dX6_getsOut_13 : decode cX6_getsOut 13 = .ok (.iload_n 1, 1) := dk_27 (dk_at dksX6_getsOut_0 13 rfl rfl)
theorem dX6_getsOut_14 : decode cX6_getsOut 14 = .ok (.iaload, 1) := dk_46 (dk_at dksX6_getsOut_0 14 rfl rfl)
theorem dX6_getsOut_15 : decode cX6_getsOut 15 = .ok (.iconst 3, 1) := dk_6 (dk_at dksX6_getsOut_0 15 rfl rfl)
theorem dX6_getsOut_16 : decode cX6_getsOut 16 = .ok (.if_icmp .eq 15, 3) := dk_159 0 15 (dk_at dksX6_getsOut_0 16 rfl rfl)
theorem dX6_getsOut_19 : decode cX6_getsOut 19 = .ok (.aload_n 0, 1) := dk_42 (dk_at dksX6_getsOut_0 19 rfl rfl)
theorem dX6_getsOut_20 : decode cX6_getsOut 20 = .ok (.getfield 7, 3) := dk_180 0 7 (dk_at dksX6_getsOut_0 20 rfl rfl)
theorem dX6_getsOut_23 : decode cX6_getsOut 23 = .ok (.iconst 0, 1) := dk_3 (dk_at dksX6_getsOut_0 23 rfl rfl)
theorem dX6_getsOut_24 : decode cX6_getsOut 24 = .ok (.iload_n 1, 1) := dk_27 (dk_at dksX6_getsOut_1 0 rfl rfl)
theorem dX6_getsOut_25 : decode cX6_getsOut 25 = .ok (.iadd, 1) := dk_96 (dk_at dksX6_getsOut_1 1 rfl rfl)
theorem dX6_getsOut_26 : decode cX6_getsOut 26 = .ok (.iaload, 1) := dk_46 (dk_at dksX6_getsOut_1 2 rfl rfl)
theorem dX6_getsOut_27 : decode cX6_getsOut 27 = .ok (.iconst 1, 1) := dk_4 (dk_at dksX6_getsOut_1 3 rfl rfl)
theorem dX6_getsOut_28 : decode cX6_getsOut 28 = .ok (.if_icmp .ne 6, 3) := dk_160 0 6 (dk_at dksX6_getsOut_1 4 rfl rfl)
theorem dX6_getsOut_31 : decode cX6_getsOut 31 = .ok (.bipush (-3), 2) := dk_16 253 (dk_at dksX6_getsOut_1 7 rfl rfl)
theorem dX6_getsOut_33 : decode cX6_getsOut 33 = .ok (.ireturn, 1) := dk_172 (dk_at dksX6_getsOut_1 9 rfl rfl)
theorem dX6_getsOut_34 : decode cX6_getsOut 34 = .ok (.aload_n 0, 1) := dk_42 (dk_at dksX6_getsOut_1 10 rfl rfl)
theorem dX6_getsOut_35 : decode cX6_getsOut 35 = .ok (.invokevirtual 364, 3) := dk_182 1 108 (dk_at dksX6_getsOut_1 11 rfl rfl)
theorem dX6_getsOut_38 : decode cX6_getsOut 38 = .ok (.iconst 0, 1) := dk_3 (dk_at dksX6_getsOut_1 14 rfl rfl)
theorem dX6_getsOut_39 : decode cX6_getsOut 39 = .ok (.istore_n 2, 1) := dk_61 (dk_at dksX6_getsOut_1 15 rfl rfl)
theorem dX6_getsOut_40 : decode cX6_getsOut 40 = .ok (.iload_n 2, 1) := dk_28 (dk_at dksX6_getsOut_1 16 rfl rfl)
theorem dX6_getsOut_41 : decode cX6_getsOut 41 = .ok (.bipush 96, 2) := dk_16 96 (dk_at dksX6_getsOut_1 17 rfl rfl)
theorem dX6_getsOut_43 : decode cX6_getsOut 43 = .ok (.if_icmp .ge 16, 3) := dk_162 0 16 (dk_at dksX6_getsOut_1 19 rfl rfl)
theorem dX6_getsOut_46 : decode cX6_getsOut 46 = .ok (.aload_n 0, 1) := dk_42 (dk_at dksX6_getsOut_1 22 rfl rfl)
theorem dX6_getsOut_47 : decode cX6_getsOut 47 = .ok (.getfield 93, 3) := dk_180 0 93 (dk_at dksX6_getsOut_2 0 rfl rfl)
theorem dX6_getsOut_50 : decode cX6_getsOut 50 = .ok (.iload_n 2, 1) := dk_28 (dk_at dksX6_getsOut_2 3 rfl rfl)
theorem dX6_getsOut_51 : decode cX6_getsOut 51 = .ok (.iconst (-1), 1) := dk_2 (dk_at dksX6_getsOut_2 4 rfl rfl)
theorem dX6_getsOut_52 : decode cX6_getsOut 52 = .ok (.iastore, 1) := dk_79 (dk_at dksX6_getsOut_2 5 rfl rfl)
theorem dX6_getsOut_53 : decode cX6_getsOut 53 = .ok (.iinc 2 1, 3) := dk_132 2 1 (dk_at dksX6_getsOut_2 6 rfl rfl)
theorem dX6_getsOut_56 : decode cX6_getsOut 56 = .ok (.goto (-16), 3) := dk_167 255 240 (dk_at dksX6_getsOut_2 9 rfl rfl)
theorem dX6_getsOut_59 : decode cX6_getsOut 59 = .ok (.aload_n 0, 1) := dk_42 (dk_at dksX6_getsOut_2 12 rfl rfl)
theorem dX6_getsOut_60 : decode cX6_getsOut 60 = .ok (.getfield 93, 3) := dk_180 0 93 (dk_at dksX6_getsOut_2 13 rfl rfl)
theorem dX6_getsOut_63 : decode cX6_getsOut 63 = .ok (.iload_n 1, 1) := dk_27 (dk_at dksX6_getsOut_2 16 rfl rfl)
theorem dX6_getsOut_64 : decode cX6_getsOut 64 = .ok (.iconst 0, 1) := dk_3 (dk_at dksX6_getsOut_2 17 rfl rfl)
theorem dX6_getsOut_65 : decode cX6_getsOut 65 = .ok (.iastore, 1) := dk_79 (dk_at dksX6_getsOut_2 18 rfl rfl)
theorem dX6_getsOut_66 : decode cX6_getsOut 66 = .ok (.aload_n 0, 1) := dk_42 (dk_at dksX6_getsOut_2 19 rfl rfl)
theorem dX6_getsOut_67 : decode cX6_getsOut 67 = .ok (.getfield 96, 3) := dk_180 0 96 (dk_at dksX6_getsOut_2 20 rfl rfl)
theorem dX6_getsOut_70 : decode cX6_getsOut 70 = .ok (.iconst 0, 1) := dk_3 (dk_at dksX6_getsOut_2 23 rfl rfl)
theorem dX6_getsOut_71 : decode cX6_getsOut 71 = .ok (.iload_n 1, 1) := dk_27 (dk_at dksX6_getsOut_3 0 rfl rfl)
theorem dX6_getsOut_72 : decode cX6_getsOut 72 = .ok (.iastore, 1) := dk_79 (dk_at dksX6_getsOut_3 1 rfl rfl)
theorem dX6_getsOut_73 : decode cX6_getsOut 73 = .ok (.iconst 1, 1) := dk_4 (dk_at dksX6_getsOut_3 2 rfl rfl)
theorem dX6_getsOut_74 : decode cX6_getsOut 74 = .ok (.istore_n 2, 1) := dk_61 (dk_at dksX6_getsOut_3 3 rfl rfl)
theorem dX6_getsOut_75 : decode cX6_getsOut 75 = .ok (.iconst 0, 1) := dk_3 (dk_at dksX6_getsOut_3 4 rfl rfl)
theorem dX6_getsOut_76 : decode cX6_getsOut 76 = .ok (.istore_n 3, 1) := dk_62 (dk_at dksX6_getsOut_3 5 rfl rfl)
theorem dX6_getsOut_77 : decode cX6_getsOut 77 = .ok (.iload_n 3, 1) := dk_29 (dk_at dksX6_getsOut_3 6 rfl rfl)
theorem dX6_getsOut_78 : decode cX6_getsOut 78 = .ok (.iload_n 2, 1) := dk_28 (dk_at dksX6_getsOut_3 7 rfl rfl)
theorem dX6_getsOut_79 : decode cX6_getsOut 79 = .ok (.if_icmp .ge 149, 3) := dk_162 0 149 (dk_at dksX6_getsOut_3 8 rfl rfl)
theorem dX6_getsOut_82 : decode cX6_getsOut 82 = .ok (.aload_n 0, 1) := dk_42 (dk_at dksX6_getsOut_3 11 rfl rfl)
theorem dX6_getsOut_83 : decode cX6_getsOut 83 = .ok (.getfield 96, 3) := dk_180 0 96 (dk_at dksX6_getsOut_3 12 rfl rfl)
theorem dX6_getsOut_86 : decode cX6_getsOut 86 = .ok (.iload_n 3, 1) := dk_29 (dk_at dksX6_getsOut_3 15 rfl rfl)
theorem dX6_getsOut_87 : decode cX6_getsOut 87 = .ok (.iaload, 1) := dk_46 (dk_at dksX6_getsOut_3 16 rfl rfl)
theorem dX6_getsOut_88 : decode cX6_getsOut 88 = .ok (.istore 4, 2) := dk_54 4 (dk_at dksX6_getsOut_3 17 rfl rfl)
theorem dX6_getsOut_90 : decode cX6_getsOut 90 = .ok (.iload 4, 2) := dk_21 4 (dk_at dksX6_getsOut_3 19 rfl rfl)
theorem dX6_getsOut_92 : decode cX6_getsOut 92 = .ok (.invokestatic 367, 3) := dk_184 1 111 (dk_at dksX6_getsOut_3 21 rfl rfl)
theorem dX6_getsOut_95 : decode cX6_getsOut 95 = .ok (.ifCond .eq 11, 3) := dk_153 0 11 (dk_at dksX6_getsOut_4 0 rfl rfl)
theorem dX6_getsOut_98 : decode cX6_getsOut 98 = .ok (.aload_n 0, 1) := dk_42 (dk_at dksX6_getsOut_4 3 rfl rfl)
theorem dX6_getsOut_99 : decode cX6_getsOut 99 = .ok (.getfield 93, 3) := dk_180 0 93 (dk_at dksX6_getsOut_4 4 rfl rfl)
theorem dX6_getsOut_102 : decode cX6_getsOut 102 = .ok (.iload 4, 2) := dk_21 4 (dk_at dksX6_getsOut_4 7 rfl rfl)
theorem dX6_getsOut_104 : decode cX6_getsOut 104 = .ok (.iaload, 1) := dk_46 (dk_at dksX6_getsOut_4 9 rfl rfl)
theorem dX6_getsOut_105 : decode cX6_getsOut 105 = .ok (.ireturn, 1) := dk_172 (dk_at dksX6_getsOut_4 10 rfl rfl)
theorem dX6_getsOut_106 : decode cX6_getsOut 106 = .ok (.iconst 0, 1) := dk_3 (dk_at dksX6_getsOut_4 11 rfl rfl)
theorem dX6_getsOut_107 : decode cX6_getsOut 107 = .ok (.istore 5, 2) := dk_54 5 (dk_at dksX6_getsOut_4 12 rfl rfl)
theorem dX6_getsOut_109 : decode cX6_getsOut 109 = .ok (.iload 5, 2) := dk_21 5 (dk_at dksX6_getsOut_4 14 rfl rfl)
theorem dX6_getsOut_111 : decode cX6_getsOut 111 = .ok (.iconst 4, 1) := dk_7 (dk_at dksX6_getsOut_4 16 rfl rfl)
theorem dX6_getsOut_112 : decode cX6_getsOut 112 = .ok (.if_icmp .ge 110, 3) := dk_162 0 110 (dk_at dksX6_getsOut_4 17 rfl rfl)
theorem dX6_getsOut_115 : decode cX6_getsOut 115 = .ok (.iload 4, 2) := dk_21 4 (dk_at dksX6_getsOut_4 20 rfl rfl)
theorem dX6_getsOut_117 : decode cX6_getsOut 117 = .ok (.iload 5, 2) := dk_21 5 (dk_at dksX6_getsOut_4 22 rfl rfl)
theorem dX6_getsOut_119 : decode cX6_getsOut 119 = .ok (.invokestatic 281, 3) := dk_184 1 25 (dk_at dksX6_getsOut_5 0 rfl rfl)
theorem dX6_getsOut_122 : decode cX6_getsOut 122 = .ok (.istore 6, 2) := dk_54 6 (dk_at dksX6_getsOut_5 3 rfl rfl)
theorem dX6_getsOut_124 : decode cX6_getsOut 124 = .ok (.iload 6, 2) := dk_21 6 (dk_at dksX6_getsOut_5 5 rfl rfl)
theorem dX6_getsOut_126 : decode cX6_getsOut 126 = .ok (.iconst (-1), 1) := dk_2 (dk_at dksX6_getsOut_5 7 rfl rfl)
theorem dX6_getsOut_127 : decode cX6_getsOut 127 = .ok (.if_icmp .eq 89, 3) := dk_159 0 89 (dk_at dksX6_getsOut_5 8 rfl rfl)
theorem dX6_getsOut_130 : decode cX6_getsOut 130 = .ok (.aload_n 0, 1) := dk_42 (dk_at dksX6_getsOut_5 11 rfl rfl)
theorem dX6_getsOut_131 : decode cX6_getsOut 131 = .ok (.getfield 19, 3) := dk_180 0 19 (dk_at dksX6_getsOut_5 12 rfl rfl)
theorem dX6_getsOut_134 : decode cX6_getsOut 134 = .ok (.iload 6, 2) := dk_21 6 (dk_at dksX6_getsOut_5 15 rfl rfl)
theorem dX6_getsOut_136 : decode cX6_getsOut 136 = .ok (.iaload, 1) := dk_46 (dk_at dksX6_getsOut_5 17 rfl rfl)
theorem dX6_getsOut_137 : decode cX6_getsOut 137 = .ok (.iconst 3, 1) := dk_6 (dk_at dksX6_getsOut_5 18 rfl rfl)
theorem dX6_getsOut_138 : decode cX6_getsOut 138 = .ok (.if_icmp .eq 78, 3) := dk_159 0 78 (dk_at dksX6_getsOut_5 19 rfl rfl)
theorem dX6_getsOut_141 : decode cX6_getsOut 141 = .ok (.aload_n 0, 1) := dk_42 (dk_at dksX6_getsOut_5 22 rfl rfl)
theorem dX6_getsOut_142 : decode cX6_getsOut 142 = .ok (.getfield 93, 3) := dk_180 0 93 (dk_at dksX6_getsOut_6 0 rfl rfl)
theorem dX6_getsOut_145 : decode cX6_getsOut 145 = .ok (.iload 6, 2) := dk_21 6 (dk_at dksX6_getsOut_6 3 rfl rfl)
theorem dX6_getsOut_147 : decode cX6_getsOut 147 = .ok (.iaload, 1) := dk_46 (dk_at dksX6_getsOut_6 5 rfl rfl)
theorem dX6_getsOut_148 : decode cX6_getsOut 148 = .ok (.iconst (-1), 1) := dk_2 (dk_at dksX6_getsOut_6 6 rfl rfl)
theorem dX6_getsOut_149 : decode cX6_getsOut 149 = .ok (.if_icmp .eq 6, 3) := dk_159 0 6 (dk_at dksX6_getsOut_6 7 rfl rfl)
theorem dX6_getsOut_152 : decode cX6_getsOut 152 = .ok (.goto 64, 3) := dk_167 0 64 (dk_at dksX6_getsOut_6 10 rfl rfl)
theorem dX6_getsOut_155 : decode cX6_getsOut 155 = .ok (.aload_n 0, 1) := dk_42 (dk_at dksX6_getsOut_6 13 rfl rfl)
theorem dX6_getsOut_156 : decode cX6_getsOut 156 = .ok (.getfield 75, 3) := dk_180 0 75 (dk_at dksX6_getsOut_6 14 rfl rfl)
theorem dX6_getsOut_159 : decode cX6_getsOut 159 = .ok (.iload 6, 2) := dk_21 6 (dk_at dksX6_getsOut_6 17 rfl rfl)
theorem dX6_getsOut_161 : decode cX6_getsOut 161 = .ok (.iaload, 1) := dk_46 (dk_at dksX6_getsOut_6 19 rfl rfl)
theorem dX6_getsOut_162 : decode cX6_getsOut 162 = .ok (.iconst (-1), 1) := dk_2 (dk_at dksX6_getsOut_6 20 rfl rfl)
theorem dX6_getsOut_163 : decode cX6_getsOut 163 = .ok (.if_icmp .eq 25, 3) := dk_159 0 25 (dk_at dksX6_getsOut_6 21 rfl rfl)
theorem dX6_getsOut_166 : decode cX6_getsOut 166 = .ok (.aload_n 0, 1) := dk_42 (dk_at dksX6_getsOut_7 0 rfl rfl)
theorem dX6_getsOut_167 : decode cX6_getsOut 167 = .ok (.getfield 75, 3) := dk_180 0 75 (dk_at dksX6_getsOut_7 1 rfl rfl)
theorem dX6_getsOut_170 : decode cX6_getsOut 170 = .ok (.iload 6, 2) := dk_21 6 (dk_at dksX6_getsOut_7 4 rfl rfl)
theorem dX6_getsOut_172 : decode cX6_getsOut 172 = .ok (.iaload, 1) := dk_46 (dk_at dksX6_getsOut_7 6 rfl rfl)
theorem dX6_getsOut_173 : decode cX6_getsOut 173 = .ok (.aload_n 0, 1) := dk_42 (dk_at dksX6_getsOut_7 7 rfl rfl)
theorem dX6_getsOut_174 : decode cX6_getsOut 174 = .ok (.getfield 93, 3) := dk_180 0 93 (dk_at dksX6_getsOut_7 8 rfl rfl)
theorem dX6_getsOut_177 : decode cX6_getsOut 177 = .ok (.iload 4, 2) := dk_21 4 (dk_at dksX6_getsOut_7 11 rfl rfl)
theorem dX6_getsOut_179 : decode cX6_getsOut 179 = .ok (.iaload, 1) := dk_46 (dk_at dksX6_getsOut_7 13 rfl rfl)
theorem dX6_getsOut_180 : decode cX6_getsOut 180 = .ok (.iconst 1, 1) := dk_4 (dk_at dksX6_getsOut_7 14 rfl rfl)
theorem dX6_getsOut_181 : decode cX6_getsOut 181 = .ok (.iadd, 1) := dk_96 (dk_at dksX6_getsOut_7 15 rfl rfl)
theorem dX6_getsOut_182 : decode cX6_getsOut 182 = .ok (.if_icmp .gt 6, 3) := dk_163 0 6 (dk_at dksX6_getsOut_7 16 rfl rfl)
theorem dX6_getsOut_185 : decode cX6_getsOut 185 = .ok (.goto 31, 3) := dk_167 0 31 (dk_at dksX6_getsOut_7 19 rfl rfl)
theorem dX6_getsOut_188 : decode cX6_getsOut 188 = .ok (.aload_n 0, 1) := dk_42 (dk_at dksX6_getsOut_7 22 rfl rfl)
theorem dX6_getsOut_189 : decode cX6_getsOut 189 = .ok (.getfield 93, 3) := dk_180 0 93 (dk_at dksX6_getsOut_8 0 rfl rfl)
theorem dX6_getsOut_192 : decode cX6_getsOut 192 = .ok (.iload 6, 2) := dk_21 6 (dk_at dksX6_getsOut_8 3 rfl rfl)
theorem dX6_getsOut_194 : decode cX6_getsOut 194 = .ok (.aload_n 0, 1) := dk_42 (dk_at dksX6_getsOut_8 5 rfl rfl)
theorem dX6_getsOut_195 : decode cX6_getsOut 195 = .ok (.getfield 93, 3) := dk_180 0 93 (dk_at dksX6_getsOut_8 6 rfl rfl)
theorem dX6_getsOut_198 : decode cX6_getsOut 198 = .ok (.iload 4, 2) := dk_21 4 (dk_at dksX6_getsOut_8 9 rfl rfl)
theorem dX6_getsOut_200 : decode cX6_getsOut 200 = .ok (.iaload, 1) := dk_46 (dk_at dksX6_getsOut_8 11 rfl rfl)
theorem dX6_getsOut_201 : decode cX6_getsOut 201 = .ok (.iconst 1, 1) := dk_4 (dk_at dksX6_getsOut_8 12 rfl rfl)
theorem dX6_getsOut_202 : decode cX6_getsOut 202 = .ok (.iadd, 1) := dk_96 (dk_at dksX6_getsOut_8 13 rfl rfl)
theorem dX6_getsOut_203 : decode cX6_getsOut 203 = .ok (.iastore, 1) := dk_79 (dk_at dksX6_getsOut_8 14 rfl rfl)
theorem dX6_getsOut_204 : decode cX6_getsOut 204 = .ok (.aload_n 0, 1) := dk_42 (dk_at dksX6_getsOut_8 15 rfl rfl)
theorem dX6_getsOut_205 : decode cX6_getsOut 205 = .ok (.getfield 96, 3) := dk_180 0 96 (dk_at dksX6_getsOut_8 16 rfl rfl)
theorem dX6_getsOut_208 : decode cX6_getsOut 208 = .ok (.iload_n 2, 1) := dk_28 (dk_at dksX6_getsOut_8 19 rfl rfl)
theorem dX6_getsOut_209 : decode cX6_getsOut 209 = .ok (.iload 6, 2) := dk_21 6 (dk_at dksX6_getsOut_8 20 rfl rfl)
theorem dX6_getsOut_211 : decode cX6_getsOut 211 = .ok (.iastore, 1) := dk_79 (dk_at dksX6_getsOut_8 22 rfl rfl)
theorem dX6_getsOut_212 : decode cX6_getsOut 212 = .ok (.iload_n 2, 1) := dk_28 (dk_at dksX6_getsOut_8 23 rfl rfl)
theorem dX6_getsOut_213 : decode cX6_getsOut 213 = .ok (.iconst 1, 1) := dk_4 (dk_at dksX6_getsOut_9 0 rfl rfl)
theorem dX6_getsOut_214 : decode cX6_getsOut 214 = .ok (.iadd, 1) := dk_96 (dk_at dksX6_getsOut_9 1 rfl rfl)
theorem dX6_getsOut_215 : decode cX6_getsOut 215 = .ok (.istore_n 2, 1) := dk_61 (dk_at dksX6_getsOut_9 2 rfl rfl)
theorem dX6_getsOut_216 : decode cX6_getsOut 216 = .ok (.iinc 5 1, 3) := dk_132 5 1 (dk_at dksX6_getsOut_9 3 rfl rfl)
theorem dX6_getsOut_219 : decode cX6_getsOut 219 = .ok (.goto (-110), 3) := dk_167 255 146 (dk_at dksX6_getsOut_9 6 rfl rfl)
theorem dX6_getsOut_222 : decode cX6_getsOut 222 = .ok (.iinc 3 1, 3) := dk_132 3 1 (dk_at dksX6_getsOut_9 9 rfl rfl)
theorem dX6_getsOut_225 : decode cX6_getsOut 225 = .ok (.goto (-148), 3) := dk_167 255 108 (dk_at dksX6_getsOut_9 12 rfl rfl)
theorem dX6_getsOut_228 : decode cX6_getsOut 228 = .ok (.bipush (-2), 2) := dk_16 254 (dk_at dksX6_getsOut_9 15 rfl rfl)
theorem dX6_getsOut_230 : decode cX6_getsOut 230 = .ok (.ireturn, 1) := dk_172 (dk_at dksX6_getsOut_9 17 rfl rfl)
abbrev cX6_laysFireNow : ByteArray := prog_20_method_80_code
def yX6_laysFireNow : MethodName := ⟨RX6, "laysFireNow", "()V"⟩
def dkwX6_laysFireNow_2 : List UInt8 := [132, 2, 1, 167, 255, 214, 42, 27, 182, 1, 84, 177]
abbrev dktX6_laysFireNow_2 : List UInt8 := dkwX6_laysFireNow_2 ++ []
def dkwX6_laysFireNow_1 : List UInt8 := [159, 0, 6, 167, 0, 21, 42, 180, 0, 75, 28, 3, 79, 42, 180, 0, 78, 27, 28, 79, 27, 4, 96, 60]
abbrev dktX6_laysFireNow_1 : List UInt8 := dkwX6_laysFireNow_1 ++ dktX6_laysFireNow_2
def dkwX6_laysFireNow_0 : List UInt8 := [42, 182, 1, 81, 3, 60, 3, 61, 28, 16, 96, 162, 0, 42, 42, 180, 0, 7, 3, 28, 96, 46, 4]
abbrev dktX6_laysFireNow_0 : List UInt8 := dkwX6_laysFireNow_0 ++ dktX6_laysFireNow_1
theorem dksX6_laysFireNow_0 : cX6_laysFireNow.data.toList.drop 0 = dktX6_laysFireNow_0 := by decide +kernel
theorem dksX6_laysFireNow_1 : cX6_laysFireNow.data.toList.drop 23 = dktX6_laysFireNow_1 := dk_seg dksX6_laysFireNow_0 23 rfl rfl
theorem dksX6_laysFireNow_2 : cX6_laysFireNow.data.toList.drop 47 = dktX6_laysFireNow_2 := dk_seg dksX6_laysFireNow_1 24 rfl rfl
theorem dX6_laysFireNow_0 : decode cX6_laysFireNow 0 = .ok (.aload_n 0, 1) := dk_42 (dk_at dksX6_laysFireNow_0 0 rfl rfl)
theorem dX6_laysFireNow_1 : decode cX6_laysFireNow 1 = .ok (.invokevirtual 337, 3) := dk_182 1 81 (dk_at dksX6_laysFireNow_0 1 rfl rfl)
theorem dX6_laysFireNow_4 : decode cX6_laysFireNow 4 = .ok (.iconst 0, 1) := dk_3 (dk_at dksX6_laysFireNow_0 4 rfl rfl)
theorem dX6_laysFireNow_5 : decode cX6_laysFireNow 5 = .ok (.istore_n 1, 1) := dk_60 (dk_at dksX6_laysFireNow_0 5 rfl rfl)
theorem dX6_laysFireNow_6 : decode cX6_laysFireNow 6 = .ok (.iconst 0, 1) := dk_3 (dk_at dksX6_laysFireNow_0 6 rfl rfl)
theorem dX6_laysFireNow_7 : decode cX6_laysFireNow 7 = .ok (.istore_n 2, 1) := dk_61 (dk_at dksX6_laysFireNow_0 7 rfl rfl)
theorem dX6_laysFireNow_8 : decode cX6_laysFireNow 8 = .ok (.iload_n 2, 1) := dk_28 (dk_at dksX6_laysFireNow_0 8 rfl rfl)
theorem dX6_laysFireNow_9 : decode cX6_laysFireNow 9 = .ok (.bipush 96, 2) := dk_16 96 (dk_at dksX6_laysFireNow_0 9 rfl rfl)
theorem dX6_laysFireNow_11 : decode cX6_laysFireNow 11 = .ok (.if_icmp .ge 42, 3) := dk_162 0 42 (dk_at dksX6_laysFireNow_0 11 rfl rfl)
theorem dX6_laysFireNow_14 : decode cX6_laysFireNow 14 = .ok (.aload_n 0, 1) := dk_42 (dk_at dksX6_laysFireNow_0 14 rfl rfl)
theorem dX6_laysFireNow_15 : decode cX6_laysFireNow 15 = .ok (.getfield 7, 3) := dk_180 0 7 (dk_at dksX6_laysFireNow_0 15 rfl rfl)
theorem dX6_laysFireNow_18 : decode cX6_laysFireNow 18 = .ok (.iconst 0, 1) := dk_3 (dk_at dksX6_laysFireNow_0 18 rfl rfl)
theorem dX6_laysFireNow_19 : decode cX6_laysFireNow 19 = .ok (.iload_n 2, 1) := dk_28 (dk_at dksX6_laysFireNow_0 19 rfl rfl)
theorem dX6_laysFireNow_20 : decode cX6_laysFireNow 20 = .ok (.iadd, 1) := dk_96 (dk_at dksX6_laysFireNow_0 20 rfl rfl)
theorem dX6_laysFireNow_21 : decode cX6_laysFireNow 21 = .ok (.iaload, 1) := dk_46 (dk_at dksX6_laysFireNow_0 21 rfl rfl)
theorem dX6_laysFireNow_22 : decode cX6_laysFireNow 22 = .ok (.iconst 1, 1) := dk_4 (dk_at dksX6_laysFireNow_0 22 rfl rfl)
theorem dX6_laysFireNow_23 : decode cX6_laysFireNow 23 = .ok (.if_icmp .eq 6, 3) := dk_159 0 6 (dk_at dksX6_laysFireNow_1 0 rfl rfl)
theorem dX6_laysFireNow_26 : decode cX6_laysFireNow 26 = .ok (.goto 21, 3) := dk_167 0 21 (dk_at dksX6_laysFireNow_1 3 rfl rfl)
theorem dX6_laysFireNow_29 : decode cX6_laysFireNow 29 = .ok (.aload_n 0, 1) := dk_42 (dk_at dksX6_laysFireNow_1 6 rfl rfl)
theorem dX6_laysFireNow_30 : decode cX6_laysFireNow 30 = .ok (.getfield 75, 3) := dk_180 0 75 (dk_at dksX6_laysFireNow_1 7 rfl rfl)
theorem dX6_laysFireNow_33 : decode cX6_laysFireNow 33 = .ok (.iload_n 2, 1) := dk_28 (dk_at dksX6_laysFireNow_1 10 rfl rfl)
theorem dX6_laysFireNow_34 : decode cX6_laysFireNow 34 = .ok (.iconst 0, 1) := dk_3 (dk_at dksX6_laysFireNow_1 11 rfl rfl)
theorem dX6_laysFireNow_35 : decode cX6_laysFireNow 35 = .ok (.iastore, 1) := dk_79 (dk_at dksX6_laysFireNow_1 12 rfl rfl)
theorem dX6_laysFireNow_36 : decode cX6_laysFireNow 36 = .ok (.aload_n 0, 1) := dk_42 (dk_at dksX6_laysFireNow_1 13 rfl rfl)
theorem dX6_laysFireNow_37 : decode cX6_laysFireNow 37 = .ok (.getfield 78, 3) := dk_180 0 78 (dk_at dksX6_laysFireNow_1 14 rfl rfl)
theorem dX6_laysFireNow_40 : decode cX6_laysFireNow 40 = .ok (.iload_n 1, 1) := dk_27 (dk_at dksX6_laysFireNow_1 17 rfl rfl)
theorem dX6_laysFireNow_41 : decode cX6_laysFireNow 41 = .ok (.iload_n 2, 1) := dk_28 (dk_at dksX6_laysFireNow_1 18 rfl rfl)
theorem dX6_laysFireNow_42 : decode cX6_laysFireNow 42 = .ok (.iastore, 1) := dk_79 (dk_at dksX6_laysFireNow_1 19 rfl rfl)
theorem dX6_laysFireNow_43 : decode cX6_laysFireNow 43 = .ok (.iload_n 1, 1) := dk_27 (dk_at dksX6_laysFireNow_1 20 rfl rfl)
theorem dX6_laysFireNow_44 : decode cX6_laysFireNow 44 = .ok (.iconst 1, 1) := dk_4 (dk_at dksX6_laysFireNow_1 21 rfl rfl)
theorem dX6_laysFireNow_45 : decode cX6_laysFireNow 45 = .ok (.iadd, 1) := dk_96 (dk_at dksX6_laysFireNow_1 22 rfl rfl)
theorem dX6_laysFireNow_46 : decode cX6_laysFireNow 46 = .ok (.istore_n 1, 1) := dk_60 (dk_at dksX6_laysFireNow_1 23 rfl rfl)
theorem dX6_laysFireNow_47 : decode cX6_laysFireNow 47 = .ok (.iinc 2 1, 3) := dk_132 2 1 (dk_at dksX6_laysFireNow_2 0 rfl rfl)
theorem dX6_laysFireNow_50 : decode cX6_laysFireNow 50 = .ok (.goto (-42), 3) := dk_167 255 214 (dk_at dksX6_laysFireNow_2 3 rfl rfl)
theorem dX6_laysFireNow_53 : decode cX6_laysFireNow 53 = .ok (.aload_n 0, 1) := dk_42 (dk_at dksX6_laysFireNow_2 6 rfl rfl)
theorem dX6_laysFireNow_54 : decode cX6_laysFireNow 54 = .ok (.iload_n 1, 1) := dk_27 (dk_at dksX6_laysFireNow_2 7 rfl rfl)
theorem dX6_laysFireNow_55 : decode cX6_laysFireNow 55 = .ok (.invokevirtual 340, 3) := dk_182 1 84 (dk_at dksX6_laysFireNow_2 8 rfl rfl)
theorem dX6_laysFireNow_58 : decode cX6_laysFireNow 58 = .ok (.return_, 1) := dk_177 (dk_at dksX6_laysFireNow_2 11 rfl rfl)
abbrev cX6_isAtEdge : ByteArray := prog_20_method_89_code
def yX6_isAtEdge : MethodName := ⟨RX6, "isAtEdge", "(I)Z"⟩
def dkwX6_isAtEdge_1 : List UInt8 := [16, 12, 108, 16, 7, 160, 0, 7, 4, 167, 0, 4, 3, 172]
abbrev dktX6_isAtEdge_1 : List UInt8 := dkwX6_isAtEdge_1 ++ []
def dkwX6_isAtEdge_0 : List UInt8 := [26, 16, 12, 112, 153, 0, 28, 26, 16, 12, 112, 16, 11, 159, 0, 19, 26, 16, 12, 108, 153, 0, 12, 26]
abbrev dktX6_isAtEdge_0 : List UInt8 := dkwX6_isAtEdge_0 ++ dktX6_isAtEdge_1
theorem dksX6_isAtEdge_0 : cX6_isAtEdge.data.toList.drop 0 = dktX6_isAtEdge_0 := by decide +kernel
theorem dksX6_isAtEdge_1 : cX6_isAtEdge.data.toList.drop 24 = dktX6_isAtEdge_1 := dk_seg dksX6_isAtEdge_0 24 rfl rfl
theorem dX6_isAtEdge_0 : decode cX6_isAtEdge 0 = .ok (.iload_n 0, 1) := dk_26 (dk_at dksX6_isAtEdge_0 0 rfl rfl)
theorem dX6_isAtEdge_1 : decode cX6_isAtEdge 1 = .ok (.bipush 12, 2) := dk_16 12 (dk_at dksX6_isAtEdge_0 1 rfl rfl)
theorem dX6_isAtEdge_3 : decode cX6_isAtEdge 3 = .ok (.irem, 1) := dk_112 (dk_at dksX6_isAtEdge_0 3 rfl rfl)
theorem dX6_isAtEdge_4 : decode cX6_isAtEdge 4 = .ok (.ifCond .eq 28, 3) := dk_153 0 28 (dk_at dksX6_isAtEdge_0 4 rfl rfl)
theorem dX6_isAtEdge_7 : decode cX6_isAtEdge 7 = .ok (.iload_n 0, 1) := dk_26 (dk_at dksX6_isAtEdge_0 7 rfl rfl)
theorem dX6_isAtEdge_8 : decode cX6_isAtEdge 8 = .ok (.bipush 12, 2) := dk_16 12 (dk_at dksX6_isAtEdge_0 8 rfl rfl)
theorem dX6_isAtEdge_10 : decode cX6_isAtEdge 10 = .ok (.irem, 1) := dk_112 (dk_at dksX6_isAtEdge_0 10 rfl rfl)
theorem dX6_isAtEdge_11 : decode cX6_isAtEdge 11 = .ok (.bipush 11, 2) := dk_16 11 (dk_at dksX6_isAtEdge_0 11 rfl rfl)
theorem dX6_isAtEdge_13 : decode cX6_isAtEdge 13 = .ok (.if_icmp .eq 19, 3) := dk_159 0 19 (dk_at dksX6_isAtEdge_0 13 rfl rfl)
theorem dX6_isAtEdge_16 : decode cX6_isAtEdge 16 = .ok (.iload_n 0, 1) := dk_26 (dk_at dksX6_isAtEdge_0 16 rfl rfl)
theorem dX6_isAtEdge_17 : decode cX6_isAtEdge 17 = .ok (.bipush 12, 2) := dk_16 12 (dk_at dksX6_isAtEdge_0 17 rfl rfl)
theorem dX6_isAtEdge_19 : decode cX6_isAtEdge 19 = .ok (.idiv, 1) := dk_108 (dk_at dksX6_isAtEdge_0 19 rfl rfl)
theorem dX6_isAtEdge_20 : decode cX6_isAtEdge 20 = .ok (.ifCond .eq 12, 3) := dk_153 0 12 (dk_at dksX6_isAtEdge_0 20 rfl rfl)
theorem dX6_isAtEdge_23 : decode cX6_isAtEdge 23 = .ok (.iload_n 0, 1) := dk_26 (dk_at dksX6_isAtEdge_0 23 rfl rfl)
theorem dX6_isAtEdge_24 : decode cX6_isAtEdge 24 = .ok (.bipush 12, 2) := dk_16 12 (dk_at dksX6_isAtEdge_1 0 rfl rfl)
theorem dX6_isAtEdge_26 : decode cX6_isAtEdge 26 = .ok (.idiv, 1) := dk_108 (dk_at dksX6_isAtEdge_1 2 rfl rfl)
theorem dX6_isAtEdge_27 : decode cX6_isAtEdge 27 = .ok (.bipush 7, 2) := dk_16 7 (dk_at dksX6_isAtEdge_1 3 rfl rfl)
theorem dX6_isAtEdge_29 : decode cX6_isAtEdge 29 = .ok (.if_icmp .ne 7, 3) := dk_160 0 7 (dk_at dksX6_isAtEdge_1 5 rfl rfl)
theorem dX6_isAtEdge_32 : decode cX6_isAtEdge 32 = .ok (.iconst 1, 1) := dk_4 (dk_at dksX6_isAtEdge_1 8 rfl rfl)
theorem dX6_isAtEdge_33 : decode cX6_isAtEdge 33 = .ok (.goto 4, 3) := dk_167 0 4 (dk_at dksX6_isAtEdge_1 9 rfl rfl)
theorem dX6_isAtEdge_36 : decode cX6_isAtEdge 36 = .ok (.iconst 0, 1) := dk_3 (dk_at dksX6_isAtEdge_1 12 rfl rfl)
theorem dX6_isAtEdge_37 : decode cX6_isAtEdge 37 = .ok (.ireturn, 1) := dk_172 (dk_at dksX6_isAtEdge_1 13 rfl rfl)
abbrev cX6_safe : ByteArray := prog_20_method_91_code
def yX6_safe : MethodName := ⟨RX6, "safe", "(I)I"⟩
def dkwX6_safe_3 : List UInt8 := [167, 0, 4, 29, 172]
abbrev dktX6_safe_3 : List UInt8 := dkwX6_safe_3 ++ []
def dkwX6_safe_2 : List UInt8 := [159, 0, 6, 167, 0, 10, 28, 4, 96, 61, 21, 4, 62, 132, 4, 255, 167, 255, 218, 27, 154, 0, 7, 28]
abbrev dktX6_safe_2 : List UInt8 := dkwX6_safe_2 ++ dktX6_safe_3
def dkwX6_safe_1 : List UInt8 := [21, 4, 155, 0, 39, 42, 21, 4, 182, 0, 241, 153, 0, 24, 42, 180, 0, 75, 21, 4, 46, 2]
abbrev dktX6_safe_1 : List UInt8 := dkwX6_safe_1 ++ dktX6_safe_2
def dkwX6_safe_0 : List UInt8 := [27, 3, 4, 184, 0, 102, 154, 0, 5, 2, 172, 42, 182, 1, 108, 3, 61, 16, 254, 62, 16, 95, 54, 4]
abbrev dktX6_safe_0 : List UInt8 := dkwX6_safe_0 ++ dktX6_safe_1
theorem dksX6_safe_0 : cX6_safe.data.toList.drop 0 = dktX6_safe_0 := by decide +kernel
theorem dksX6_safe_1 : cX6_safe.data.toList.drop 24 = dktX6_safe_1 := dk_seg dksX6_safe_0 24 rfl rfl
theorem dksX6_safe_2 : cX6_safe.data.toList.drop 46 = dktX6_safe_2 := dk_seg dksX6_safe_1 22 rfl rfl
theorem dksX6_safe_3 : cX6_safe.data.toList.drop 70 = dktX6_safe_3 := dk_seg dksX6_safe_2 24 rfl rfl
theorem dX6_safe_0 : decode cX6_safe 0 = .ok (.iload_n 1, 1) := dk_27 (dk_at dksX6_safe_0 0 rfl rfl)
theorem dX6_safe_1 : decode cX6_safe 1 = .ok (.iconst 0, 1) := dk_3 (dk_at dksX6_safe_0 1 rfl rfl)
theorem dX6_safe_2 : decode cX6_safe 2 = .ok (.iconst 1, 1) := dk_4 (dk_at dksX6_safe_0 2 rfl rfl)
theorem dX6_safe_3 : decode cX6_safe 3 = .ok (.invokestatic 102, 3) := dk_184 0 102 (dk_at dksX6_safe_0 3 rfl rfl)
theorem dX6_safe_6 : decode cX6_safe 6 = .ok (.ifCond .ne 5, 3) := dk_154 0 5 (dk_at dksX6_safe_0 6 rfl rfl)
theorem dX6_safe_9 : decode cX6_safe 9 = .ok (.iconst (-1), 1) := dk_2 (dk_at dksX6_safe_0 9 rfl rfl)
theorem dX6_safe_10 : decode cX6_safe 10 = .ok (.ireturn, 1) := dk_172 (dk_at dksX6_safe_0 10 rfl rfl)
theorem dX6_safe_11 : decode cX6_safe 11 = .ok (.aload_n 0, 1) := dk_42 (dk_at dksX6_safe_0 11 rfl rfl)
theorem dX6_safe_12 : decode cX6_safe 12 = .ok (.invokevirtual 364, 3) := dk_182 1 108 (dk_at dksX6_safe_0 12 rfl rfl)
theorem dX6_safe_15 : decode cX6_safe 15 = .ok (.iconst 0, 1) := dk_3 (dk_at dksX6_safe_0 15 rfl rfl)
theorem dX6_safe_16 : decode cX6_safe 16 = .ok (.istore_n 2, 1) := dk_61 (dk_at dksX6_safe_0 16 rfl rfl)
theorem dX6_safe_17 : decode cX6_safe 17 = .ok (.bipush (-2), 2) := dk_16 254 (dk_at dksX6_safe_0 17 rfl rfl)
theorem dX6_safe_19 : decode cX6_safe 19 = .ok (.istore_n 3, 1) := dk_62 (dk_at dksX6_safe_0 19 rfl rfl)
theorem dX6_safe_20 : decode cX6_safe 20 = .ok (.bipush 95, 2) := dk_16 95 (dk_at dksX6_safe_0 20 rfl rfl)
theorem dX6_safe_22 : decode cX6_safe 22 = .ok (.istore 4, 2) := dk_54 4 (dk_at dksX6_safe_0 22 rfl rfl)
theorem dX6_safe_24 : decode cX6_safe 24 = .ok (.iload 4, 2) := dk_21 4 (dk_at dksX6_safe_1 0 rfl rfl)
theorem dX6_safe_26 : decode cX6_safe 26 = .ok (.ifCond .lt 39, 3) := dk_155 0 39 (dk_at dksX6_safe_1 2 rfl rfl)
theorem dX6_safe_29 : decode cX6_safe 29 = .ok (.aload_n 0, 1) := dk_42 (dk_at dksX6_safe_1 5 rfl rfl)
theorem dX6_safe_30 : decode cX6_safe 30 = .ok (.iload 4, 2) := dk_21 4 (dk_at dksX6_safe_1 6 rfl rfl)
theorem dX6_safe_32 : decode cX6_safe 32 = .ok (.invokevirtual 241, 3) := dk_182 0 241 (dk_at dksX6_safe_1 8 rfl rfl)
theorem dX6_safe_35 : decode cX6_safe 35 = .ok (.ifCond .eq 24, 3) := dk_153 0 24 (dk_at dksX6_safe_1 11 rfl rfl)
theorem dX6_safe_38 : decode cX6_safe 38 = .ok (.aload_n 0, 1) := dk_42 (dk_at dksX6_safe_1 14 rfl rfl)
theorem dX6_safe_39 : decode cX6_safe 39 = .ok (.getfield 75, 3) := dk_180 0 75 (dk_at dksX6_safe_1 15 rfl rfl)
theorem dX6_safe_42 : decode cX6_safe 42 = .ok (.iload 4, 2) := dk_21 4 (dk_at dksX6_safe_1 18 rfl rfl)
theorem dX6_safe_44 : decode cX6_safe 44 = .ok (.iaload, 1) := dk_46 (dk_at dksX6_safe_1 20 rfl rfl)
theorem dX6_safe_45 : decode cX6_safe 45 = .ok (.iconst (-1), 1) := dk_2 (dk_at dksX6_safe_1 21 rfl rfl)
theorem dX6_safe_46 : decode cX6_safe 46 = .ok (.if_icmp .eq 6, 3) := dk_159 0 6 (dk_at dksX6_safe_2 0 rfl rfl)
theorem dX6_safe_49 : decode cX6_safe 49 = .ok (.goto 10, 3) := dk_167 0 10 (dk_at dksX6_safe_2 3 rfl rfl)
theorem dX6_safe_52 : decode cX6_safe 52 = .ok (.iload_n 2, 1) := dk_28 (dk_at dksX6_safe_2 6 rfl rfl)
theorem dX6_safe_53 : decode cX6_safe 53 = .ok (.iconst 1, 1) := dk_4 (dk_at dksX6_safe_2 7 rfl rfl)
theorem dX6_safe_54 : decode cX6_safe 54 = .ok (.iadd, 1) := dk_96 (dk_at dksX6_safe_2 8 rfl rfl)
theorem dX6_safe_55 : decode cX6_safe 55 = .ok (.istore_n 2, 1) := dk_61 (dk_at dksX6_safe_2 9 rfl rfl)
theorem dX6_safe_56 : decode cX6_safe 56 = .ok (.iload 4, 2) := dk_21 4 (dk_at dksX6_safe_2 10 rfl rfl)
theorem dX6_safe_58 : decode cX6_safe 58 = .ok (.istore_n 3, 1) := dk_62 (dk_at dksX6_safe_2 12 rfl rfl)
theorem dX6_safe_59 : decode cX6_safe 59 = .ok (.iinc 4 (-1), 3) := dk_132 4 255 (dk_at dksX6_safe_2 13 rfl rfl)
theorem dX6_safe_62 : decode cX6_safe 62 = .ok (.goto (-38), 3) := dk_167 255 218 (dk_at dksX6_safe_2 16 rfl rfl)
theorem dX6_safe_65 : decode cX6_safe 65 = .ok (.iload_n 1, 1) := dk_27 (dk_at dksX6_safe_2 19 rfl rfl)
theorem dX6_safe_66 : decode cX6_safe 66 = .ok (.ifCond .ne 7, 3) := dk_154 0 7 (dk_at dksX6_safe_2 20 rfl rfl)
theorem dX6_safe_69 : decode cX6_safe 69 = .ok (.iload_n 2, 1) := dk_28 (dk_at dksX6_safe_2 23 rfl rfl)
theorem dX6_safe_70 : decode cX6_safe 70 = .ok (.goto 4, 3) := dk_167 0 4 (dk_at dksX6_safe_3 0 rfl rfl)
theorem dX6_safe_73 : decode cX6_safe 73 = .ok (.iload_n 3, 1) := dk_29 (dk_at dksX6_safe_3 3 rfl rfl)
theorem dX6_safe_74 : decode cX6_safe 74 = .ok (.ireturn, 1) := dk_172 (dk_at dksX6_safe_3 4 rfl rfl)
abbrev cX6_woods : ByteArray := prog_20_method_92_code
def yX6_woods : MethodName := ⟨RX6, "woods", "(I)I"⟩
def dkwX6_woods_4 : List UInt8 := [62, 132, 4, 1, 167, 255, 180, 27, 154, 0, 7, 28, 167, 0, 4, 29, 172]
abbrev dktX6_woods_4 : List UInt8 := dkwX6_woods_4 ++ []
def dkwX6_woods_3 : List UInt8 := [3, 21, 4, 79, 42, 4, 182, 1, 84, 28, 4, 96, 61, 29, 42, 182, 1, 114, 21, 5, 100, 184, 1, 117]
abbrev dktX6_woods_3 : List UInt8 := dkwX6_woods_3 ++ dktX6_woods_4
def dkwX6_woods_2 : List UInt8 := [159, 0, 6, 167, 0, 46, 42, 182, 1, 114, 54, 5, 42, 180, 0, 75, 21, 4, 3, 79, 42, 180, 0, 78]
abbrev dktX6_woods_2 : List UInt8 := dkwX6_woods_2 ++ dktX6_woods_3
def dkwX6_woods_1 : List UInt8 := [16, 96, 162, 0, 75, 42, 21, 4, 182, 0, 241, 153, 0, 60, 42, 180, 0, 75, 21, 4, 46, 2]
abbrev dktX6_woods_1 : List UInt8 := dkwX6_woods_1 ++ dktX6_woods_2
def dkwX6_woods_0 : List UInt8 := [27, 3, 4, 184, 0, 102, 154, 0, 5, 2, 172, 42, 182, 1, 81, 3, 61, 3, 62, 3, 54, 4, 21, 4]
abbrev dktX6_woods_0 : List UInt8 := dkwX6_woods_0 ++ dktX6_woods_1
theorem dksX6_woods_0 : cX6_woods.data.toList.drop 0 = dktX6_woods_0 := by decide +kernel
theorem dksX6_woods_1 : cX6_woods.data.toList.drop 24 = dktX6_woods_1 := dk_seg dksX6_woods_0 24 rfl rfl
theorem dksX6_woods_2 : cX6_woods.data.toList.drop 46 = dktX6_woods_2 := dk_seg dksX6_woods_1 22 rfl rfl
theorem dksX6_woods_3 : cX6_woods.data.toList.drop 70 = dktX6_woods_3 := dk_seg dksX6_woods_2 24 rfl rfl
theorem dksX6_woods_4 : cX6_woods.data.toList.drop 94 = dktX6_woods_4 := dk_seg dksX6_woods_3 24 rfl rfl
theorem dX6_woods_0 : decode cX6_woods 0 = .ok (.iload_n 1, 1) := dk_27 (dk_at dksX6_woods_0 0 rfl rfl)
theorem dX6_woods_1 : decode cX6_woods 1 = .ok (.iconst 0, 1) := dk_3 (dk_at dksX6_woods_0 1 rfl rfl)
theorem dX6_woods_2 : decode cX6_woods 2 = .ok (.iconst 1, 1) := dk_4 (dk_at dksX6_woods_0 2 rfl rfl)
theorem dX6_woods_3 : decode cX6_woods 3 = .ok (.invokestatic 102, 3) := dk_184 0 102 (dk_at dksX6_woods_0 3 rfl rfl)
theorem dX6_woods_6 : decode cX6_woods 6 = .ok (.ifCond .ne 5, 3) := dk_154 0 5 (dk_at dksX6_woods_0 6 rfl rfl)
theorem dX6_woods_9 : decode cX6_woods 9 = .ok (.iconst (-1), 1) := dk_2 (dk_at dksX6_woods_0 9 rfl rfl)
theorem dX6_woods_10 : decode cX6_woods 10 = .ok (.ireturn, 1) := dk_172 (dk_at dksX6_woods_0 10 rfl rfl)
theorem dX6_woods_11 : decode cX6_woods 11 = .ok (.aload_n 0, 1) := dk_42 (dk_at dksX6_woods_0 11 rfl rfl)
theorem dX6_woods_12 : decode cX6_woods 12 = .ok (.invokevirtual 337, 3) := dk_182 1 81 (dk_at dksX6_woods_0 12 rfl rfl)
theorem dX6_woods_15 : decode cX6_woods 15 = .ok (.iconst 0, 1) := dk_3 (dk_at dksX6_woods_0 15 rfl rfl)
theorem dX6_woods_16 : decode cX6_woods 16 = .ok (.istore_n 2, 1) := dk_61 (dk_at dksX6_woods_0 16 rfl rfl)
theorem dX6_woods_17 : decode cX6_woods 17 = .ok (.iconst 0, 1) := dk_3 (dk_at dksX6_woods_0 17 rfl rfl)
theorem dX6_woods_18 : decode cX6_woods 18 = .ok (.istore_n 3, 1) := dk_62 (dk_at dksX6_woods_0 18 rfl rfl)
theorem dX6_woods_19 : decode cX6_woods 19 = .ok (.iconst 0, 1) := dk_3 (dk_at dksX6_woods_0 19 rfl rfl)
theorem dX6_woods_20 : decode cX6_woods 20 = .ok (.istore 4, 2) := dk_54 4 (dk_at dksX6_woods_0 20 rfl rfl)
theorem dX6_woods_22 : decode cX6_woods 22 = .ok (.iload 4, 2) := dk_21 4 (dk_at dksX6_woods_0 22 rfl rfl)
theorem dX6_woods_24 : decode cX6_woods 24 = .ok (.bipush 96, 2) := dk_16 96 (dk_at dksX6_woods_1 0 rfl rfl)
theorem dX6_woods_26 : decode cX6_woods 26 = .ok (.if_icmp .ge 75, 3) := dk_162 0 75 (dk_at dksX6_woods_1 2 rfl rfl)
theorem dX6_woods_29 : decode cX6_woods 29 = .ok (.aload_n 0, 1) := dk_42 (dk_at dksX6_woods_1 5 rfl rfl)
theorem dX6_woods_30 : decode cX6_woods 30 = .ok (.iload 4, 2) := dk_21 4 (dk_at dksX6_woods_1 6 rfl rfl)
theorem dX6_woods_32 : decode cX6_woods 32 = .ok (.invokevirtual 241, 3) := dk_182 0 241 (dk_at dksX6_woods_1 8 rfl rfl)
theorem dX6_woods_35 : decode cX6_woods 35 = .ok (.ifCond .eq 60, 3) := dk_153 0 60 (dk_at dksX6_woods_1 11 rfl rfl)
theorem dX6_woods_38 : decode cX6_woods 38 = .ok (.aload_n 0, 1) := dk_42 (dk_at dksX6_woods_1 14 rfl rfl)
theorem dX6_woods_39 : decode cX6_woods 39 = .ok (.getfield 75, 3) := dk_180 0 75 (dk_at dksX6_woods_1 15 rfl rfl)
theorem dX6_woods_42 : decode cX6_woods 42 = .ok (.iload 4, 2) := dk_21 4 (dk_at dksX6_woods_1 18 rfl rfl)
theorem dX6_woods_44 : decode cX6_woods 44 = .ok (.iaload, 1) := dk_46 (dk_at dksX6_woods_1 20 rfl rfl)
theorem dX6_woods_45 : decode cX6_woods 45 = .ok (.iconst (-1), 1) := dk_2 (dk_at dksX6_woods_1 21 rfl rfl)
theorem dX6_woods_46 : decode cX6_woods 46 = .ok (.if_icmp .eq 6, 3) := dk_159 0 6 (dk_at dksX6_woods_2 0 rfl rfl)
theorem dX6_woods_49 : decode cX6_woods 49 = .ok (.goto 46, 3) := dk_167 0 46 (dk_at dksX6_woods_2 3 rfl rfl)
theorem dX6_woods_52 : decode cX6_woods 52 = .ok (.aload_n 0, 1) := dk_42 (dk_at dksX6_woods_2 6 rfl rfl)
theorem dX6_woods_53 : decode cX6_woods 53 = .ok (.invokevirtual 370, 3) := dk_182 1 114 (dk_at dksX6_woods_2 7 rfl rfl)
theorem dX6_woods_56 : decode cX6_woods 56 = .ok (.istore 5, 2) := dk_54 5 (dk_at dksX6_woods_2 10 rfl rfl)
theorem dX6_woods_58 : decode cX6_woods 58 = .ok (.aload_n 0, 1) := dk_42 (dk_at dksX6_woods_2 12 rfl rfl)
theorem dX6_woods_59 : decode cX6_woods 59 = .ok (.getfield 75, 3) := dk_180 0 75 (dk_at dksX6_woods_2 13 rfl rfl)
theorem dX6_woods_62 : decode cX6_woods 62 = .ok (.iload 4, 2) := dk_21 4 (dk_at dksX6_woods_2 16 rfl rfl)
theorem dX6_woods_64 : decode cX6_woods 64 = .ok (.iconst 0, 1) := dk_3 (dk_at dksX6_woods_2 18 rfl rfl)
theorem dX6_woods_65 : decode cX6_woods 65 = .ok (.iastore, 1) := dk_79 (dk_at dksX6_woods_2 19 rfl rfl)
theorem dX6_woods_66 : decode cX6_woods 66 = .ok (.aload_n 0, 1) := dk_42 (dk_at dksX6_woods_2 20 rfl rfl)
theorem dX6_woods_67 : decode cX6_woods 67 = .ok (.getfield 78, 3) := dk_180 0 78 (dk_at dksX6_woods_2 21 rfl rfl)
theorem dX6_woods_70 : decode cX6_woods 70 = .ok (.iconst 0, 1) := dk_3 (dk_at dksX6_woods_3 0 rfl rfl)
theorem dX6_woods_71 : decode cX6_woods 71 = .ok (.iload 4, 2) := dk_21 4 (dk_at dksX6_woods_3 1 rfl rfl)
theorem dX6_woods_73 : decode cX6_woods 73 = .ok (.iastore, 1) := dk_79 (dk_at dksX6_woods_3 3 rfl rfl)
theorem dX6_woods_74 : decode cX6_woods 74 = .ok (.aload_n 0, 1) := dk_42 (dk_at dksX6_woods_3 4 rfl rfl)
theorem dX6_woods_75 : decode cX6_woods 75 = .ok (.iconst 1, 1) := dk_4 (dk_at dksX6_woods_3 5 rfl rfl)
theorem dX6_woods_76 : decode cX6_woods 76 = .ok (.invokevirtual 340, 3) := dk_182 1 84 (dk_at dksX6_woods_3 6 rfl rfl)
theorem dX6_woods_79 : decode cX6_woods 79 = .ok (.iload_n 2, 1) := dk_28 (dk_at dksX6_woods_3 9 rfl rfl)
theorem dX6_woods_80 : decode cX6_woods 80 = .ok (.iconst 1, 1) := dk_4 (dk_at dksX6_woods_3 10 rfl rfl)
theorem dX6_woods_81 : decode cX6_woods 81 = .ok (.iadd, 1) := dk_96 (dk_at dksX6_woods_3 11 rfl rfl)
theorem dX6_woods_82 : decode cX6_woods 82 = .ok (.istore_n 2, 1) := dk_61 (dk_at dksX6_woods_3 12 rfl rfl)
theorem dX6_woods_83 : decode cX6_woods 83 = .ok (.iload_n 3, 1) := dk_29 (dk_at dksX6_woods_3 13 rfl rfl)
theorem dX6_woods_84 : decode cX6_woods 84 = .ok (.aload_n 0, 1) := dk_42 (dk_at dksX6_woods_3 14 rfl rfl)
theorem dX6_woods_85 : decode cX6_woods 85 = .ok (.invokevirtual 370, 3) := dk_182 1 114 (dk_at dksX6_woods_3 15 rfl rfl)
theorem dX6_woods_88 : decode cX6_woods 88 = .ok (.iload 5, 2) := dk_21 5 (dk_at dksX6_woods_3 18 rfl rfl)
theorem dX6_woods_90 : decode cX6_woods 90 = .ok (.isub, 1) := dk_100 (dk_at dksX6_woods_3 20 rfl rfl)
theorem dX6_woods_91 : decode cX6_woods 91 = .ok (.invokestatic 373, 3) := dk_184 1 117 (dk_at dksX6_woods_3 21 rfl rfl)
theorem dX6_woods_94 : decode cX6_woods 94 = .ok (.istore_n 3, 1) := dk_62 (dk_at dksX6_woods_4 0 rfl rfl)
theorem dX6_woods_95 : decode cX6_woods 95 = .ok (.iinc 4 1, 3) := dk_132 4 1 (dk_at dksX6_woods_4 1 rfl rfl)
theorem dX6_woods_98 : decode cX6_woods 98 = .ok (.goto (-76), 3) := dk_167 255 180 (dk_at dksX6_woods_4 4 rfl rfl)
theorem dX6_woods_101 : decode cX6_woods 101 = .ok (.iload_n 1, 1) := dk_27 (dk_at dksX6_woods_4 7 rfl rfl)
theorem dX6_woods_102 : decode cX6_woods 102 = .ok (.ifCond .ne 7, 3) := dk_154 0 7 (dk_at dksX6_woods_4 8 rfl rfl)
theorem dX6_woods_105 : decode cX6_woods 105 = .ok (.iload_n 2, 1) := dk_28 (dk_at dksX6_woods_4 11 rfl rfl)
theorem dX6_woods_106 : decode cX6_woods 106 = .ok (.goto 4, 3) := dk_167 0 4 (dk_at dksX6_woods_4 12 rfl rfl)
theorem dX6_woods_109 : decode cX6_woods 109 = .ok (.iload_n 3, 1) := dk_29 (dk_at dksX6_woods_4 15 rfl rfl)
theorem dX6_woods_110 : decode cX6_woods 110 = .ok (.ireturn, 1) := dk_172 (dk_at dksX6_woods_4 16 rfl rfl)
abbrev cX6_woodSeen : ByteArray := prog_20_method_93_code
def yX6_woodSeen : MethodName := ⟨RX6, "woodSeen", "()I"⟩
def dkwX6_woodSeen_1 : List UInt8 := [132, 2, 1, 167, 255, 233, 27, 172]
abbrev dktX6_woodSeen_1 : List UInt8 := dkwX6_woodSeen_1 ++ []
def dkwX6_woodSeen_0 : List UInt8 := [3, 60, 3, 61, 28, 16, 96, 162, 0, 23, 42, 180, 0, 75, 28, 46, 2, 159, 0, 7, 27, 4, 96, 60]
abbrev dktX6_woodSeen_0 : List UInt8 := dkwX6_woodSeen_0 ++ dktX6_woodSeen_1
theorem dksX6_woodSeen_0 : cX6_woodSeen.data.toList.drop 0 = dktX6_woodSeen_0 := by decide +kernel
theorem dksX6_woodSeen_1 : cX6_woodSeen.data.toList.drop 24 = dktX6_woodSeen_1 := dk_seg dksX6_woodSeen_0 24 rfl rfl
theorem dX6_woodSeen_0 : decode cX6_woodSeen 0 = .ok (.iconst 0, 1) := dk_3 (dk_at dksX6_woodSeen_0 0 rfl rfl)
theorem dX6_woodSeen_1 : decode cX6_woodSeen 1 = .ok (.istore_n 1, 1) := dk_60 (dk_at dksX6_woodSeen_0 1 rfl rfl)
theorem dX6_woodSeen_2 : decode cX6_woodSeen 2 = .ok (.iconst 0, 1) := dk_3 (dk_at dksX6_woodSeen_0 2 rfl rfl)
theorem dX6_woodSeen_3 : decode cX6_woodSeen 3 = .ok (.istore_n 2, 1) := dk_61 (dk_at dksX6_woodSeen_0 3 rfl rfl)
theorem dX6_woodSeen_4 : decode cX6_woodSeen 4 = .ok (.iload_n 2, 1) := dk_28 (dk_at dksX6_woodSeen_0 4 rfl rfl)
theorem dX6_woodSeen_5 : decode cX6_woodSeen 5 = .ok (.bipush 96, 2) := dk_16 96 (dk_at dksX6_woodSeen_0 5 rfl rfl)
theorem dX6_woodSeen_7 : decode cX6_woodSeen 7 = .ok (.if_icmp .ge 23, 3) := dk_162 0 23 (dk_at dksX6_woodSeen_0 7 rfl rfl)
theorem dX6_woodSeen_10 : decode cX6_woodSeen 10 = .ok (.aload_n 0, 1) := dk_42 (dk_at dksX6_woodSeen_0 10 rfl rfl)
theorem dX6_woodSeen_11 : decode cX6_woodSeen 11 = .ok (.getfield 75, 3) := dk_180 0 75 (dk_at dksX6_woodSeen_0 11 rfl rfl)
theorem dX6_woodSeen_14 : decode cX6_woodSeen 14 = .ok (.iload_n 2, 1) := dk_28 (dk_at dksX6_woodSeen_0 14 rfl rfl)
theorem dX6_woodSeen_15 : decode cX6_woodSeen 15 = .ok (.iaload, 1) := dk_46 (dk_at dksX6_woodSeen_0 15 rfl rfl)
theorem dX6_woodSeen_16 : decode cX6_woodSeen 16 = .ok (.iconst (-1), 1) := dk_2 (dk_at dksX6_woodSeen_0 16 rfl rfl)
theorem dX6_woodSeen_17 : decode cX6_woodSeen 17 = .ok (.if_icmp .eq 7, 3) := dk_159 0 7 (dk_at dksX6_woodSeen_0 17 rfl rfl)
theorem dX6_woodSeen_20 : decode cX6_woodSeen 20 = .ok (.iload_n 1, 1) := dk_27 (dk_at dksX6_woodSeen_0 20 rfl rfl)
theorem dX6_woodSeen_21 : decode cX6_woodSeen 21 = .ok (.iconst 1, 1) := dk_4 (dk_at dksX6_woodSeen_0 21 rfl rfl)
theorem dX6_woodSeen_22 : decode cX6_woodSeen 22 = .ok (.iadd, 1) := dk_96 (dk_at dksX6_woodSeen_0 22 rfl rfl)
theorem dX6_woodSeen_23 : decode cX6_woodSeen 23 = .ok (.istore_n 1, 1) := dk_60 (dk_at dksX6_woodSeen_0 23 rfl rfl)
theorem dX6_woodSeen_24 : decode cX6_woodSeen 24 = .ok (.iinc 2 1, 3) := dk_132 2 1 (dk_at dksX6_woodSeen_1 0 rfl rfl)
theorem dX6_woodSeen_27 : decode cX6_woodSeen 27 = .ok (.goto (-23), 3) := dk_167 255 233 (dk_at dksX6_woodSeen_1 3 rfl rfl)
theorem dX6_woodSeen_30 : decode cX6_woodSeen 30 = .ok (.iload_n 1, 1) := dk_27 (dk_at dksX6_woodSeen_1 6 rfl rfl)
theorem dX6_woodSeen_31 : decode cX6_woodSeen 31 = .ok (.ireturn, 1) := dk_172 (dk_at dksX6_woodSeen_1 7 rfl rfl)
abbrev cX6_max : ByteArray := prog_20_method_4_code
def yX6_max : MethodName := ⟨RX6, "max", "(II)I"⟩
def dkwX6_max_0 : List UInt8 := [26, 27, 164, 0, 7, 26, 167, 0, 4, 27, 172]
abbrev dktX6_max_0 : List UInt8 := dkwX6_max_0 ++ []
theorem dksX6_max_0 : cX6_max.data.toList.drop 0 = dktX6_max_0 := by decide +kernel
theorem dX6_max_0 : decode cX6_max 0 = .ok (.iload_n 0, 1) := dk_26 (dk_at dksX6_max_0 0 rfl rfl)
theorem dX6_max_1 : decode cX6_max 1 = .ok (.iload_n 1, 1) := dk_27 (dk_at dksX6_max_0 1 rfl rfl)
theorem dX6_max_2 : decode cX6_max 2 = .ok (.if_icmp .le 7, 3) := dk_164 0 7 (dk_at dksX6_max_0 2 rfl rfl)
theorem dX6_max_5 : decode cX6_max 5 = .ok (.iload_n 0, 1) := dk_26 (dk_at dksX6_max_0 5 rfl rfl)
theorem dX6_max_6 : decode cX6_max 6 = .ok (.goto 4, 3) := dk_167 0 4 (dk_at dksX6_max_0 6 rfl rfl)
theorem dX6_max_9 : decode cX6_max 9 = .ok (.iload_n 1, 1) := dk_27 (dk_at dksX6_max_0 9 rfl rfl)
theorem dX6_max_10 : decode cX6_max 10 = .ok (.ireturn, 1) := dk_172 (dk_at dksX6_max_0 10 rfl rfl)
abbrev cX6_insure : ByteArray := prog_20_method_94_code
def yX6_insure : MethodName := ⟨RX6, "insure", "(III)I"⟩
def dkwX6_insure_8 : List UInt8 := [4, 160, 0, 8, 21, 6, 167, 0, 5, 21, 4, 172]
abbrev dktX6_insure_8 : List UInt8 := dkwX6_insure_8 ++ []
def dkwX6_insure_7 : List UInt8 := [21, 8, 54, 5, 21, 9, 54, 6, 132, 7, 1, 167, 255, 141, 29, 154, 0, 8, 21, 5, 167, 0, 15, 29]
abbrev dktX6_insure_7 : List UInt8 := dkwX6_insure_7 ++ dktX6_insure_8
def dkwX6_insure_6 : List UInt8 := [161, 0, 32, 21, 8, 21, 5, 160, 0, 13, 21, 9, 21, 6, 161, 0, 6, 167, 0, 15, 21, 7, 54, 4]
abbrev dktX6_insure_6 : List UInt8 := dkwX6_insure_6 ++ dktX6_insure_7
def dkwX6_insure_5 : List UInt8 := [182, 1, 123, 96, 54, 9, 132, 10, 1, 167, 255, 206, 21, 9, 28, 163, 0, 39, 21, 8, 21, 5]
abbrev dktX6_insure_5 : List UInt8 := dkwX6_insure_5 ++ dktX6_insure_6
def dkwX6_insure_4 : List UInt8 := [21, 8, 42, 5, 21, 10, 104, 182, 1, 123, 96, 54, 8, 21, 9, 42, 5, 21, 10, 104, 4, 96]
abbrev dktX6_insure_4 : List UInt8 := dkwX6_insure_4 ++ dktX6_insure_5
def dkwX6_insure_3 : List UInt8 := [54, 9, 3, 54, 10, 21, 10, 27, 162, 0, 50, 21, 7, 21, 10, 184, 1, 120, 154, 0, 6, 167, 0, 31]
abbrev dktX6_insure_3 : List UInt8 := dkwX6_insure_3 ++ dktX6_insure_4
def dkwX6_insure_2 : List UInt8 := [54, 4, 3, 54, 5, 3, 54, 6, 4, 54, 7, 21, 7, 4, 27, 120, 162, 0, 113, 3, 54, 8, 3]
abbrev dktX6_insure_2 : List UInt8 := dkwX6_insure_2 ++ dktX6_insure_3
def dkwX6_insure_1 : List UInt8 := [184, 0, 102, 153, 0, 13, 5, 27, 104, 42, 180, 0, 117, 164, 0, 5, 2, 172, 42, 3, 181, 0, 117, 3]
abbrev dktX6_insure_1 : List UInt8 := dkwX6_insure_1 ++ dktX6_insure_2
def dkwX6_insure_0 : List UInt8 := [27, 4, 16, 10, 184, 0, 102, 153, 0, 33, 28, 3, 17, 9, 246, 184, 0, 102, 153, 0, 22, 29, 3, 5]
abbrev dktX6_insure_0 : List UInt8 := dkwX6_insure_0 ++ dktX6_insure_1
theorem dksX6_insure_0 : cX6_insure.data.toList.drop 0 = dktX6_insure_0 := by decide +kernel
theorem dksX6_insure_1 : cX6_insure.data.toList.drop 24 = dktX6_insure_1 := dk_seg dksX6_insure_0 24 rfl rfl
theorem dksX6_insure_2 : cX6_insure.data.toList.drop 48 = dktX6_insure_2 := dk_seg dksX6_insure_1 24 rfl rfl
theorem dksX6_insure_3 : cX6_insure.data.toList.drop 71 = dktX6_insure_3 := dk_seg dksX6_insure_2 23 rfl rfl
theorem dksX6_insure_4 : cX6_insure.data.toList.drop 95 = dktX6_insure_4 := dk_seg dksX6_insure_3 24 rfl rfl
theorem dksX6_insure_5 : cX6_insure.data.toList.drop 117 = dktX6_insure_5 := dk_seg dksX6_insure_4 22 rfl rfl
theorem dksX6_insure_6 : cX6_insure.data.toList.drop 139 = dktX6_insure_6 := dk_seg dksX6_insure_5 22 rfl rfl
theorem dksX6_insure_7 : cX6_insure.data.toList.drop 163 = dktX6_insure_7 := dk_seg dksX6_insure_6 24 rfl rfl
theorem dksX6_insure_8 : cX6_insure.data.toList.drop 187 = dktX6_insure_8 := dk_seg dksX6_insure_7 24 rfl rfl
theorem dX6_insure_0 : decode cX6_insure 0 = .ok (.iload_n 1, 1) := dk_27 (dk_at dksX6_insure_0 0 rfl rfl)
theorem dX6_insure_1 : decode cX6_insure 1 = .ok (.iconst 1, 1) := dk_4 (dk_at dksX6_insure_0 1 rfl rfl)
theorem dX6_insure_2 : decode cX6_insure 2 = .ok (.bipush 10, 2) := dk_16 10 (dk_at dksX6_insure_0 2 rfl rfl)
theorem dX6_insure_4 : decode cX6_insure 4 = .ok (.invokestatic 102, 3) := dk_184 0 102 (dk_at dksX6_insure_0 4 rfl rfl)
theorem dX6_insure_7 : decode cX6_insure 7 = .ok (.ifCond .eq 33, 3) := dk_153 0 33 (dk_at dksX6_insure_0 7 rfl rfl)
theorem dX6_insure_10 : decode cX6_insure 10 = .ok (.iload_n 2, 1) := dk_28 (dk_at dksX6_insure_0 10 rfl rfl)
theorem dX6_insure_11 : decode cX6_insure 11 = .ok (.iconst 0, 1) := dk_3 (dk_at dksX6_insure_0 11 rfl rfl)
theorem dX6_insure_12 : decode cX6_insure 12 = .ok (.sipush 2550, 3) := dk_17 9 246 (dk_at dksX6_insure_0 12 rfl rfl)
theorem dX6_insure_15 : decode cX6_insure 15 = .ok (.invokestatic 102, 3) := dk_184 0 102 (dk_at dksX6_insure_0 15 rfl rfl)
theorem dX6_insure_18 : decode cX6_insure 18 = .ok (.ifCond .eq 22, 3) := dk_153 0 22 (dk_at dksX6_insure_0 18 rfl rfl)
theorem dX6_insure_21 : decode cX6_insure 21 = .ok (.iload_n 3, 1) := dk_29 (dk_at dksX6_insure_0 21 rfl rfl)
theorem dX6_insure_22 : decode cX6_insure 22 = .ok (.iconst 0, 1) := dk_3 (dk_at dksX6_insure_0 22 rfl rfl)
theorem dX6_insure_23 : decode cX6_insure 23 = .ok (.iconst 2, 1) := dk_5 (dk_at dksX6_insure_0 23 rfl rfl)
theorem dX6_insure_24 : decode cX6_insure 24 = .ok (.invokestatic 102, 3) := dk_184 0 102 (dk_at dksX6_insure_1 0 rfl rfl)
theorem dX6_insure_27 : decode cX6_insure 27 = .ok (.ifCond .eq 13, 3) := dk_153 0 13 (dk_at dksX6_insure_1 3 rfl rfl)
theorem dX6_insure_30 : decode cX6_insure 30 = .ok (.iconst 2, 1) := dk_5 (dk_at dksX6_insure_1 6 rfl rfl)
theorem dX6_insure_31 : decode cX6_insure 31 = .ok (.iload_n 1, 1) := dk_27 (dk_at dksX6_insure_1 7 rfl rfl)
theorem dX6_insure_32 : decode cX6_insure 32 = .ok (.imul, 1) := dk_104 (dk_at dksX6_insure_1 8 rfl rfl)
theorem dX6_insure_33 : decode cX6_insure 33 = .ok (.aload_n 0, 1) := dk_42 (dk_at dksX6_insure_1 9 rfl rfl)
theorem dX6_insure_34 : decode cX6_insure 34 = .ok (.getfield 117, 3) := dk_180 0 117 (dk_at dksX6_insure_1 10 rfl rfl)
theorem dX6_insure_37 : decode cX6_insure 37 = .ok (.if_icmp .le 5, 3) := dk_164 0 5 (dk_at dksX6_insure_1 13 rfl rfl)
theorem dX6_insure_40 : decode cX6_insure 40 = .ok (.iconst (-1), 1) := dk_2 (dk_at dksX6_insure_1 16 rfl rfl)
theorem dX6_insure_41 : decode cX6_insure 41 = .ok (.ireturn, 1) := dk_172 (dk_at dksX6_insure_1 17 rfl rfl)
theorem dX6_insure_42 : decode cX6_insure 42 = .ok (.aload_n 0, 1) := dk_42 (dk_at dksX6_insure_1 18 rfl rfl)
theorem dX6_insure_43 : decode cX6_insure 43 = .ok (.iconst 0, 1) := dk_3 (dk_at dksX6_insure_1 19 rfl rfl)
theorem dX6_insure_44 : decode cX6_insure 44 = .ok (.putfield 117, 3) := dk_181 0 117 (dk_at dksX6_insure_1 20 rfl rfl)
theorem dX6_insure_47 : decode cX6_insure 47 = .ok (.iconst 0, 1) := dk_3 (dk_at dksX6_insure_1 23 rfl rfl)
theorem dX6_insure_48 : decode cX6_insure 48 = .ok (.istore 4, 2) := dk_54 4 (dk_at dksX6_insure_2 0 rfl rfl)
theorem dX6_insure_50 : decode cX6_insure 50 = .ok (.iconst 0, 1) := dk_3 (dk_at dksX6_insure_2 2 rfl rfl)
theorem dX6_insure_51 : decode cX6_insure 51 = .ok (.istore 5, 2) := dk_54 5 (dk_at dksX6_insure_2 3 rfl rfl)
theorem dX6_insure_53 : decode cX6_insure 53 = .ok (.iconst 0, 1) := dk_3 (dk_at dksX6_insure_2 5 rfl rfl)
theorem dX6_insure_54 : decode cX6_insure 54 = .ok (.istore 6, 2) := dk_54 6 (dk_at dksX6_insure_2 6 rfl rfl)
theorem dX6_insure_56 : decode cX6_insure 56 = .ok (.iconst 1, 1) := dk_4 (dk_at dksX6_insure_2 8 rfl rfl)
theorem dX6_insure_57 : decode cX6_insure 57 = .ok (.istore 7, 2) := dk_54 7 (dk_at dksX6_insure_2 9 rfl rfl)
theorem dX6_insure_59 : decode cX6_insure 59 = .ok (.iload 7, 2) := dk_21 7 (dk_at dksX6_insure_2 11 rfl rfl)
theorem dX6_insure_61 : decode cX6_insure 61 = .ok (.iconst 1, 1) := dk_4 (dk_at dksX6_insure_2 13 rfl rfl)
theorem dX6_insure_62 : decode cX6_insure 62 = .ok (.iload_n 1, 1) := dk_27 (dk_at dksX6_insure_2 14 rfl rfl)
theorem dX6_insure_63 : decode cX6_insure 63 = .ok (.ishl, 1) := dk_120 (dk_at dksX6_insure_2 15 rfl rfl)
theorem dX6_insure_64 : decode cX6_insure 64 = .ok (.if_icmp .ge 113, 3) := dk_162 0 113 (dk_at dksX6_insure_2 16 rfl rfl)
theorem dX6_insure_67 : decode cX6_insure 67 = .ok (.iconst 0, 1) := dk_3 (dk_at dksX6_insure_2 19 rfl rfl)
theorem dX6_insure_68 : decode cX6_insure 68 = .ok (.istore 8, 2) := dk_54 8 (dk_at dksX6_insure_2 20 rfl rfl)
theorem dX6_insure_70 : decode cX6_insure 70 = .ok (.iconst 0, 1) := dk_3 (dk_at dksX6_insure_2 22 rfl rfl)
theorem dX6_insure_71 : decode cX6_insure 71 = .ok (.istore 9, 2) := dk_54 9 (dk_at dksX6_insure_3 0 rfl rfl)
theorem dX6_insure_73 : decode cX6_insure 73 = .ok (.iconst 0, 1) := dk_3 (dk_at dksX6_insure_3 2 rfl rfl)
theorem dX6_insure_74 : decode cX6_insure 74 = .ok (.istore 10, 2) := dk_54 10 (dk_at dksX6_insure_3 3 rfl rfl)
theorem dX6_insure_76 : decode cX6_insure 76 = .ok (.iload 10, 2) := dk_21 10 (dk_at dksX6_insure_3 5 rfl rfl)
theorem dX6_insure_78 : decode cX6_insure 78 = .ok (.iload_n 1, 1) := dk_27 (dk_at dksX6_insure_3 7 rfl rfl)
theorem dX6_insure_79 : decode cX6_insure 79 = .ok (.if_icmp .ge 50, 3) := dk_162 0 50 (dk_at dksX6_insure_3 8 rfl rfl)
theorem dX6_insure_82 : decode cX6_insure 82 = .ok (.iload 7, 2) := dk_21 7 (dk_at dksX6_insure_3 11 rfl rfl)
theorem dX6_insure_84 : decode cX6_insure 84 = .ok (.iload 10, 2) := dk_21 10 (dk_at dksX6_insure_3 13 rfl rfl)
theorem dX6_insure_86 : decode cX6_insure 86 = .ok (.invokestatic 376, 3) := dk_184 1 120 (dk_at dksX6_insure_3 15 rfl rfl)
theorem dX6_insure_89 : decode cX6_insure 89 = .ok (.ifCond .ne 6, 3) := dk_154 0 6 (dk_at dksX6_insure_3 18 rfl rfl)
theorem dX6_insure_92 : decode cX6_insure 92 = .ok (.goto 31, 3) := dk_167 0 31 (dk_at dksX6_insure_3 21 rfl rfl)
theorem dX6_insure_95 : decode cX6_insure 95 = .ok (.iload 8, 2) := dk_21 8 (dk_at dksX6_insure_4 0 rfl rfl)
theorem dX6_insure_97 : decode cX6_insure 97 = .ok (.aload_n 0, 1) := dk_42 (dk_at dksX6_insure_4 2 rfl rfl)
theorem dX6_insure_98 : decode cX6_insure 98 = .ok (.iconst 2, 1) := dk_5 (dk_at dksX6_insure_4 3 rfl rfl)
theorem dX6_insure_99 : decode cX6_insure 99 = .ok (.iload 10, 2) := dk_21 10 (dk_at dksX6_insure_4 4 rfl rfl)
theorem dX6_insure_101 : decode cX6_insure 101 = .ok (.imul, 1) := dk_104 (dk_at dksX6_insure_4 6 rfl rfl)
theorem dX6_insure_102 : decode cX6_insure 102 = .ok (.invokevirtual 379, 3) := dk_182 1 123 (dk_at dksX6_insure_4 7 rfl rfl)
theorem dX6_insure_105 : decode cX6_insure 105 = .ok (.iadd, 1) := dk_96 (dk_at dksX6_insure_4 10 rfl rfl)
theorem dX6_insure_106 : decode cX6_insure 106 = .ok (.istore 8, 2) := dk_54 8 (dk_at dksX6_insure_4 11 rfl rfl)
theorem dX6_insure_108 : decode cX6_insure 108 = .ok (.iload 9, 2) := dk_21 9 (dk_at dksX6_insure_4 13 rfl rfl)
theorem dX6_insure_110 : decode cX6_insure 110 = .ok (.aload_n 0, 1) := dk_42 (dk_at dksX6_insure_4 15 rfl rfl)
theorem dX6_insure_111 : decode cX6_insure 111 = .ok (.iconst 2, 1) := dk_5 (dk_at dksX6_insure_4 16 rfl rfl)
theorem dX6_insure_112 : decode cX6_insure 112 = .ok (.iload 10, 2) := dk_21 10 (dk_at dksX6_insure_4 17 rfl rfl)
theorem dX6_insure_114 : decode cX6_insure 114 = .ok (.imul, 1) := dk_104 (dk_at dksX6_insure_4 19 rfl rfl)
theorem dX6_insure_115 : decode cX6_insure 115 = .ok (.iconst 1, 1) := dk_4 (dk_at dksX6_insure_4 20 rfl rfl)
theorem dX6_insure_116 : decode cX6_insure 116 = .ok (.iadd, 1) := dk_96 (dk_at dksX6_insure_4 21 rfl rfl)
theorem dX6_insure_117 : decode cX6_insure 117 = .ok (.invokevirtual 379, 3) := dk_182 1 123 (dk_at dksX6_insure_5 0 rfl rfl)
theorem dX6_insure_120 : decode cX6_insure 120 = .ok (.iadd, 1) := dk_96 (dk_at dksX6_insure_5 3 rfl rfl)
theorem dX6_insure_121 : decode cX6_insure 121 = .ok (.istore 9, 2) := dk_54 9 (dk_at dksX6_insure_5 4 rfl rfl)
theorem dX6_insure_123 : decode cX6_insure 123 = .ok (.iinc 10 1, 3) := dk_132 10 1 (dk_at dksX6_insure_5 6 rfl rfl)
theorem dX6_insure_126 : decode cX6_insure 126 = .ok (.goto (-50), 3) := dk_167 255 206 (dk_at dksX6_insure_5 9 rfl rfl)
theorem dX6_insure_129 : decode cX6_insure 129 = .ok (.iload 9, 2) := dk_21 9 (dk_at dksX6_insure_5 12 rfl rfl)
theorem dX6_insure_131 : decode cX6_insure 131 = .ok (.iload_n 2, 1) := dk_28 (dk_at dksX6_insure_5 14 rfl rfl)
theorem dX6_insure_132 : decode cX6_insure 132 = .ok (.if_icmp .gt 39, 3) := dk_163 0 39 (dk_at dksX6_insure_5 15 rfl rfl)
theorem dX6_insure_135 : decode cX6_insure 135 = .ok (.iload 8, 2) := dk_21 8 (dk_at dksX6_insure_5 18 rfl rfl)
theorem dX6_insure_137 : decode cX6_insure 137 = .ok (.iload 5, 2) := dk_21 5 (dk_at dksX6_insure_5 20 rfl rfl)
theorem dX6_insure_139 : decode cX6_insure 139 = .ok (.if_icmp .lt 32, 3) := dk_161 0 32 (dk_at dksX6_insure_6 0 rfl rfl)
theorem dX6_insure_142 : decode cX6_insure 142 = .ok (.iload 8, 2) := dk_21 8 (dk_at dksX6_insure_6 3 rfl rfl)
theorem dX6_insure_144 : decode cX6_insure 144 = .ok (.iload 5, 2) := dk_21 5 (dk_at dksX6_insure_6 5 rfl rfl)
theorem dX6_insure_146 : decode cX6_insure 146 = .ok (.if_icmp .ne 13, 3) := dk_160 0 13 (dk_at dksX6_insure_6 7 rfl rfl)
theorem dX6_insure_149 : decode cX6_insure 149 = .ok (.iload 9, 2) := dk_21 9 (dk_at dksX6_insure_6 10 rfl rfl)
theorem dX6_insure_151 : decode cX6_insure 151 = .ok (.iload 6, 2) := dk_21 6 (dk_at dksX6_insure_6 12 rfl rfl)
theorem dX6_insure_153 : decode cX6_insure 153 = .ok (.if_icmp .lt 6, 3) := dk_161 0 6 (dk_at dksX6_insure_6 14 rfl rfl)
theorem dX6_insure_156 : decode cX6_insure 156 = .ok (.goto 15, 3) := dk_167 0 15 (dk_at dksX6_insure_6 17 rfl rfl)
theorem dX6_insure_159 : decode cX6_insure 159 = .ok (.iload 7, 2) := dk_21 7 (dk_at dksX6_insure_6 20 rfl rfl)
theorem dX6_insure_161 : decode cX6_insure 161 = .ok (.istore 4, 2) := dk_54 4 (dk_at dksX6_insure_6 22 rfl rfl)
theorem dX6_insure_163 : decode cX6_insure 163 = .ok (.iload 8, 2) := dk_21 8 (dk_at dksX6_insure_7 0 rfl rfl)
theorem dX6_insure_165 : decode cX6_insure 165 = .ok (.istore 5, 2) := dk_54 5 (dk_at dksX6_insure_7 2 rfl rfl)
theorem dX6_insure_167 : decode cX6_insure 167 = .ok (.iload 9, 2) := dk_21 9 (dk_at dksX6_insure_7 4 rfl rfl)
theorem dX6_insure_169 : decode cX6_insure 169 = .ok (.istore 6, 2) := dk_54 6 (dk_at dksX6_insure_7 6 rfl rfl)
theorem dX6_insure_171 : decode cX6_insure 171 = .ok (.iinc 7 1, 3) := dk_132 7 1 (dk_at dksX6_insure_7 8 rfl rfl)
theorem dX6_insure_174 : decode cX6_insure 174 = .ok (.goto (-115), 3) := dk_167 255 141 (dk_at dksX6_insure_7 11 rfl rfl)
theorem dX6_insure_177 : decode cX6_insure 177 = .ok (.iload_n 3, 1) := dk_29 (dk_at dksX6_insure_7 14 rfl rfl)
theorem dX6_insure_178 : decode cX6_insure 178 = .ok (.ifCond .ne 8, 3) := dk_154 0 8 (dk_at dksX6_insure_7 15 rfl rfl)
theorem dX6_insure_181 : decode cX6_insure 181 = .ok (.iload 5, 2) := dk_21 5 (dk_at dksX6_insure_7 18 rfl rfl)
theorem dX6_insure_183 : decode cX6_insure 183 = .ok (.goto 15, 3) := dk_167 0 15 (dk_at dksX6_insure_7 20 rfl rfl)
theorem dX6_insure_186 : decode cX6_insure 186 = .ok (.iload_n 3, 1) := dk_29 (dk_at dksX6_insure_7 23 rfl rfl)
theorem dX6_insure_187 : decode cX6_insure 187 = .ok (.iconst 1, 1) := dk_4 (dk_at dksX6_insure_8 0 rfl rfl)
theorem dX6_insure_188 : decode cX6_insure 188 = .ok (.if_icmp .ne 8, 3) := dk_160 0 8 (dk_at dksX6_insure_8 1 rfl rfl)
theorem dX6_insure_191 : decode cX6_insure 191 = .ok (.iload 6, 2) := dk_21 6 (dk_at dksX6_insure_8 4 rfl rfl)
theorem dX6_insure_193 : decode cX6_insure 193 = .ok (.goto 5, 3) := dk_167 0 5 (dk_at dksX6_insure_8 6 rfl rfl)
theorem dX6_insure_196 : decode cX6_insure 196 = .ok (.iload 4, 2) := dk_21 4 (dk_at dksX6_insure_8 9 rfl rfl)
theorem dX6_insure_198 : decode cX6_insure 198 = .ok (.ireturn, 1) := dk_172 (dk_at dksX6_insure_8 11 rfl rfl)
abbrev cX6_has : ByteArray := prog_20_method_6_code
def yX6_has : MethodName := ⟨RX6, "has", "(II)Z"⟩
def dkwX6_has_0 : List UInt8 := [26, 27, 122, 4, 126, 4, 160, 0, 7, 4, 167, 0, 4, 3, 172]
abbrev dktX6_has_0 : List UInt8 := dkwX6_has_0 ++ []
theorem dksX6_has_0 : cX6_has.data.toList.drop 0 = dktX6_has_0 := by decide +kernel
theorem dX6_has_0 : decode cX6_has 0 = .ok (.iload_n 0, 1) := dk_26 (dk_at dksX6_has_0 0 rfl rfl)
theorem dX6_has_1 : decode cX6_has 1 = .ok (.iload_n 1, 1) := dk_27 (dk_at dksX6_has_0 1 rfl rfl)
theorem dX6_has_2 : decode cX6_has 2 = .ok (.ishr, 1) := dk_122 (dk_at dksX6_has_0 2 rfl rfl)
theorem dX6_has_3 : decode cX6_has 3 = .ok (.iconst 1, 1) := dk_4 (dk_at dksX6_has_0 3 rfl rfl)
theorem dX6_has_4 : decode cX6_has 4 = .ok (.iand, 1) := dk_126 (dk_at dksX6_has_0 4 rfl rfl)
theorem dX6_has_5 : decode cX6_has 5 = .ok (.iconst 1, 1) := dk_4 (dk_at dksX6_has_0 5 rfl rfl)
theorem dX6_has_6 : decode cX6_has 6 = .ok (.if_icmp .ne 7, 3) := dk_160 0 7 (dk_at dksX6_has_0 6 rfl rfl)
theorem dX6_has_9 : decode cX6_has 9 = .ok (.iconst 1, 1) := dk_4 (dk_at dksX6_has_0 9 rfl rfl)
theorem dX6_has_10 : decode cX6_has 10 = .ok (.goto 4, 3) := dk_167 0 4 (dk_at dksX6_has_0 10 rfl rfl)
theorem dX6_has_13 : decode cX6_has 13 = .ok (.iconst 0, 1) := dk_3 (dk_at dksX6_has_0 13 rfl rfl)
theorem dX6_has_14 : decode cX6_has 14 = .ok (.ireturn, 1) := dk_172 (dk_at dksX6_has_0 14 rfl rfl)
abbrev cX6_octet : ByteArray := prog_20_method_17_code
def yX6_octet : MethodName := ⟨RX6, "octet", "(I)I"⟩
def dkwX6_octet_0 : List UInt8 := [42, 180, 0, 25, 27, 51, 17, 0, 255, 126, 172]
abbrev dktX6_octet_0 : List UInt8 := dkwX6_octet_0 ++ []
theorem dksX6_octet_0 : cX6_octet.data.toList.drop 0 = dktX6_octet_0 := by decide +kernel
theorem dX6_octet_0 : decode cX6_octet 0 = .ok (.aload_n 0, 1) := dk_42 (dk_at dksX6_octet_0 0 rfl rfl)
theorem dX6_octet_1 : decode cX6_octet 1 = .ok (.getfield 25, 3) := dk_180 0 25 (dk_at dksX6_octet_0 1 rfl rfl)
theorem dX6_octet_4 : decode cX6_octet 4 = .ok (.iload_n 1, 1) := dk_27 (dk_at dksX6_octet_0 4 rfl rfl)
theorem dX6_octet_5 : decode cX6_octet 5 = .ok (.baload, 1) := dk_51 (dk_at dksX6_octet_0 5 rfl rfl)
theorem dX6_octet_6 : decode cX6_octet 6 = .ok (.sipush 255, 3) := dk_17 0 255 (dk_at dksX6_octet_0 6 rfl rfl)
theorem dX6_octet_9 : decode cX6_octet 9 = .ok (.iand, 1) := dk_126 (dk_at dksX6_octet_0 9 rfl rfl)
theorem dX6_octet_10 : decode cX6_octet 10 = .ok (.ireturn, 1) := dk_172 (dk_at dksX6_octet_0 10 rfl rfl)
abbrev cX6_roundFigure : ByteArray := prog_20_method_95_code
def yX6_roundFigure : MethodName := ⟨RX6, "roundFigure", "(I)I"⟩
def dkwX6_roundFigure_3 : List UInt8 := [28, 27, 100, 184, 1, 128, 162, 0, 7, 8, 29, 104, 61, 29, 16, 10, 104, 62, 167, 255, 185, 28, 172]
abbrev dktX6_roundFigure_3 : List UInt8 := dkwX6_roundFigure_3 ++ []
def dkwX6_roundFigure_2 : List UInt8 := [184, 1, 128, 28, 27, 100, 184, 1, 128, 162, 0, 7, 5, 29, 104, 61, 8, 29, 104, 27, 100, 184, 1, 128]
abbrev dktX6_roundFigure_2 : List UInt8 := dkwX6_roundFigure_2 ++ dktX6_roundFigure_3
def dkwX6_roundFigure_1 : List UInt8 := [29, 27, 100, 184, 1, 128, 28, 27, 100, 184, 1, 128, 162, 0, 5, 29, 61, 5, 29, 104, 27, 100]
abbrev dktX6_roundFigure_1 : List UInt8 := dkwX6_roundFigure_1 ++ dktX6_roundFigure_2
def dkwX6_roundFigure_0 : List UInt8 := [27, 4, 19, 1, 126, 184, 0, 102, 154, 0, 5, 2, 172, 4, 61, 4, 62, 29, 19, 1, 127, 163, 0, 70]
abbrev dktX6_roundFigure_0 : List UInt8 := dkwX6_roundFigure_0 ++ dktX6_roundFigure_1
theorem dksX6_roundFigure_0 : cX6_roundFigure.data.toList.drop 0 = dktX6_roundFigure_0 := by decide +kernel
theorem dksX6_roundFigure_1 : cX6_roundFigure.data.toList.drop 24 = dktX6_roundFigure_1 := dk_seg dksX6_roundFigure_0 24 rfl rfl
theorem dksX6_roundFigure_2 : cX6_roundFigure.data.toList.drop 46 = dktX6_roundFigure_2 := dk_seg dksX6_roundFigure_1 22 rfl rfl
theorem dksX6_roundFigure_3 : cX6_roundFigure.data.toList.drop 70 = dktX6_roundFigure_3 := dk_seg dksX6_roundFigure_2 24 rfl rfl
theorem dX6_roundFigure_0 : decode cX6_roundFigure 0 = .ok (.iload_n 1, 1) := dk_27 (dk_at dksX6_roundFigure_0 0 rfl rfl)
theorem dX6_roundFigure_1 : decode cX6_roundFigure 1 = .ok (.iconst 1, 1) := dk_4 (dk_at dksX6_roundFigure_0 1 rfl rfl)
theorem dX6_roundFigure_2 : decode cX6_roundFigure 2 = .ok (.ldc_w 382, 3) := dk_19 1 126 (dk_at dksX6_roundFigure_0 2 rfl rfl)
theorem dX6_roundFigure_5 : decode cX6_roundFigure 5 = .ok (.invokestatic 102, 3) := dk_184 0 102 (dk_at dksX6_roundFigure_0 5 rfl rfl)
theorem dX6_roundFigure_8 : decode cX6_roundFigure 8 = .ok (.ifCond .ne 5, 3) := dk_154 0 5 (dk_at dksX6_roundFigure_0 8 rfl rfl)
theorem dX6_roundFigure_11 : decode cX6_roundFigure 11 = .ok (.iconst (-1), 1) := dk_2 (dk_at dksX6_roundFigure_0 11 rfl rfl)
theorem dX6_roundFigure_12 : decode cX6_roundFigure 12 = .ok (.ireturn, 1) := dk_172 (dk_at dksX6_roundFigure_0 12 rfl rfl)
theorem dX6_roundFigure_13 : decode cX6_roundFigure 13 = .ok (.iconst 1, 1) := dk_4 (dk_at dksX6_roundFigure_0 13 rfl rfl)
theorem dX6_roundFigure_14 : decode cX6_roundFigure 14 = .ok (.istore_n 2, 1) := dk_61 (dk_at dksX6_roundFigure_0 14 rfl rfl)
theorem dX6_roundFigure_15 : decode cX6_roundFigure 15 = .ok (.iconst 1, 1) := dk_4 (dk_at dksX6_roundFigure_0 15 rfl rfl)
theorem dX6_roundFigure_16 : decode cX6_roundFigure 16 = .ok (.istore_n 3, 1) := dk_62 (dk_at dksX6_roundFigure_0 16 rfl rfl)
theorem dX6_roundFigure_17 : decode cX6_roundFigure 17 = .ok (.iload_n 3, 1) := dk_29 (dk_at dksX6_roundFigure_0 17 rfl rfl)
theorem dX6_roundFigure_18 : decode cX6_roundFigure 18 = .ok (.ldc_w 383, 3) := dk_19 1 127 (dk_at dksX6_roundFigure_0 18 rfl rfl)
theorem dX6_roundFigure_21 : decode cX6_roundFigure 21 = .ok (.if_icmp .gt 70, 3) := dk_163 0 70 (dk_at dksX6_roundFigure_0 21 rfl rfl)
theorem dX6_roundFigure_24 : decode cX6_roundFigure 24 = .ok (.iload_n 3, 1) := dk_29 (dk_at dksX6_roundFigure_1 0 rfl rfl)
theorem dX6_roundFigure_25 : decode cX6_roundFigure 25 = .ok (.iload_n 1, 1) := dk_27 (dk_at dksX6_roundFigure_1 1 rfl rfl)
theorem dX6_roundFigure_26 : decode cX6_roundFigure 26 = .ok (.isub, 1) := dk_100 (dk_at dksX6_roundFigure_1 2 rfl rfl)
theorem dX6_roundFigure_27 : decode cX6_roundFigure 27 = .ok (.invokestatic 384, 3) := dk_184 1 128 (dk_at dksX6_roundFigure_1 3 rfl rfl)
theorem dX6_roundFigure_30 : decode cX6_roundFigure 30 = .ok (.iload_n 2, 1) := dk_28 (dk_at dksX6_roundFigure_1 6 rfl rfl)
theorem dX6_roundFigure_31 : decode cX6_roundFigure 31 = .ok (.iload_n 1, 1) := dk_27 (dk_at dksX6_roundFigure_1 7 rfl rfl)
theorem dX6_roundFigure_32 : decode cX6_roundFigure 32 = .ok (.isub, 1) := dk_100 (dk_at dksX6_roundFigure_1 8 rfl rfl)
theorem dX6_roundFigure_33 : decode cX6_roundFigure 33 = .ok (.invokestatic 384, 3) := dk_184 1 128 (dk_at dksX6_roundFigure_1 9 rfl rfl)
theorem dX6_roundFigure_36 : decode cX6_roundFigure 36 = .ok (.if_icmp .ge 5, 3) := dk_162 0 5 (dk_at dksX6_roundFigure_1 12 rfl rfl)
theorem dX6_roundFigure_39 : decode cX6_roundFigure 39 = .ok (.iload_n 3, 1) := dk_29 (dk_at dksX6_roundFigure_1 15 rfl rfl)
theorem dX6_roundFigure_40 : decode cX6_roundFigure 40 = .ok (.istore_n 2, 1) := dk_61 (dk_at dksX6_roundFigure_1 16 rfl rfl)
theorem dX6_roundFigure_41 : decode cX6_roundFigure 41 = .ok (.iconst 2, 1) := dk_5 (dk_at dksX6_roundFigure_1 17 rfl rfl)
theorem dX6_roundFigure_42 : decode cX6_roundFigure 42 = .ok (.iload_n 3, 1) := dk_29 (dk_at dksX6_roundFigure_1 18 rfl rfl)
theorem dX6_roundFigure_43 : decode cX6_roundFigure 43 = .ok (.imul, 1) := dk_104 (dk_at dksX6_roundFigure_1 19 rfl rfl)
theorem dX6_roundFigure_44 : decode cX6_roundFigure 44 = .ok (.iload_n 1, 1) := dk_27 (dk_at dksX6_roundFigure_1 20 rfl rfl)
theorem dX6_roundFigure_45 : decode cX6_roundFigure 45 = .ok (.isub, 1) := dk_100 (dk_at dksX6_roundFigure_1 21 rfl rfl)
theorem dX6_roundFigure_46 : decode cX6_roundFigure 46 = .ok (.invokestatic 384, 3) := dk_184 1 128 (dk_at dksX6_roundFigure_2 0 rfl rfl)
theorem dX6_roundFigure_49 : decode cX6_roundFigure 49 = .ok (.iload_n 2, 1) := dk_28 (dk_at dksX6_roundFigure_2 3 rfl rfl)
theorem dX6_roundFigure_50 : decode cX6_roundFigure 50 = .ok (.iload_n 1, 1) := dk_27 (dk_at dksX6_roundFigure_2 4 rfl rfl)
theorem dX6_roundFigure_51 : decode cX6_roundFigure 51 = .ok (.isub, 1) := dk_100 (dk_at dksX6_roundFigure_2 5 rfl rfl)
theorem dX6_roundFigure_52 : decode cX6_roundFigure 52 = .ok (.invokestatic 384, 3) := dk_184 1 128 (dk_at dksX6_roundFigure_2 6 rfl rfl)
theorem dX6_roundFigure_55 : decode cX6_roundFigure 55 = .ok (.if_icmp .ge 7, 3) := dk_162 0 7 (dk_at dksX6_roundFigure_2 9 rfl rfl)
theorem dX6_roundFigure_58 : decode cX6_roundFigure 58 = .ok (.iconst 2, 1) := dk_5 (dk_at dksX6_roundFigure_2 12 rfl rfl)
theorem dX6_roundFigure_59 : decode cX6_roundFigure 59 = .ok (.iload_n 3, 1) := dk_29 (dk_at dksX6_roundFigure_2 13 rfl rfl)
theorem dX6_roundFigure_60 : decode cX6_roundFigure 60 = .ok (.imul, 1) := dk_104 (dk_at dksX6_roundFigure_2 14 rfl rfl)
theorem dX6_roundFigure_61 : decode cX6_roundFigure 61 = .ok (.istore_n 2, 1) := dk_61 (dk_at dksX6_roundFigure_2 15 rfl rfl)
theorem dX6_roundFigure_62 : decode cX6_roundFigure 62 = .ok (.iconst 5, 1) := dk_8 (dk_at dksX6_roundFigure_2 16 rfl rfl)
theorem dX6_roundFigure_63 : decode cX6_roundFigure 63 = .ok (.iload_n 3, 1) := dk_29 (dk_at dksX6_roundFigure_2 17 rfl rfl)
theorem dX6_roundFigure_64 : decode cX6_roundFigure 64 = .ok (.imul, 1) := dk_104 (dk_at dksX6_roundFigure_2 18 rfl rfl)
theorem dX6_roundFigure_65 : decode cX6_roundFigure 65 = .ok (.iload_n 1, 1) := dk_27 (dk_at dksX6_roundFigure_2 19 rfl rfl)
theorem dX6_roundFigure_66 : decode cX6_roundFigure 66 = .ok (.isub, 1) := dk_100 (dk_at dksX6_roundFigure_2 20 rfl rfl)
theorem dX6_roundFigure_67 : decode cX6_roundFigure 67 = .ok (.invokestatic 384, 3) := dk_184 1 128 (dk_at dksX6_roundFigure_2 21 rfl rfl)
theorem dX6_roundFigure_70 : decode cX6_roundFigure 70 = .ok (.iload_n 2, 1) := dk_28 (dk_at dksX6_roundFigure_3 0 rfl rfl)
theorem dX6_roundFigure_71 : decode cX6_roundFigure 71 = .ok (.iload_n 1, 1) := dk_27 (dk_at dksX6_roundFigure_3 1 rfl rfl)
theorem dX6_roundFigure_72 : decode cX6_roundFigure 72 = .ok (.isub, 1) := dk_100 (dk_at dksX6_roundFigure_3 2 rfl rfl)
theorem dX6_roundFigure_73 : decode cX6_roundFigure 73 = .ok (.invokestatic 384, 3) := dk_184 1 128 (dk_at dksX6_roundFigure_3 3 rfl rfl)
theorem dX6_roundFigure_76 : decode cX6_roundFigure 76 = .ok (.if_icmp .ge 7, 3) := dk_162 0 7 (dk_at dksX6_roundFigure_3 6 rfl rfl)
theorem dX6_roundFigure_79 : decode cX6_roundFigure 79 = .ok (.iconst 5, 1) := dk_8 (dk_at dksX6_roundFigure_3 9 rfl rfl)
theorem dX6_roundFigure_80 : decode cX6_roundFigure 80 = .ok (.iload_n 3, 1) := dk_29 (dk_at dksX6_roundFigure_3 10 rfl rfl)
theorem dX6_roundFigure_81 : decode cX6_roundFigure 81 = .ok (.imul, 1) := dk_104 (dk_at dksX6_roundFigure_3 11 rfl rfl)
theorem dX6_roundFigure_82 : decode cX6_roundFigure 82 = .ok (.istore_n 2, 1) := dk_61 (dk_at dksX6_roundFigure_3 12 rfl rfl)
theorem dX6_roundFigure_83 : decode cX6_roundFigure 83 = .ok (.iload_n 3, 1) := dk_29 (dk_at dksX6_roundFigure_3 13 rfl rfl)
theorem dX6_roundFigure_84 : decode cX6_roundFigure 84 = .ok (.bipush 10, 2) := dk_16 10 (dk_at dksX6_roundFigure_3 14 rfl rfl)
theorem dX6_roundFigure_86 : decode cX6_roundFigure 86 = .ok (.imul, 1) := dk_104 (dk_at dksX6_roundFigure_3 16 rfl rfl)
theorem dX6_roundFigure_87 : decode cX6_roundFigure 87 = .ok (.istore_n 3, 1) := dk_62 (dk_at dksX6_roundFigure_3 17 rfl rfl)
theorem dX6_roundFigure_88 : decode cX6_roundFigure 88 = .ok (.goto (-71), 3) := dk_167 255 185 (dk_at dksX6_roundFigure_3 18 rfl rfl)
theorem dX6_roundFigure_91 : decode cX6_roundFigure 91 = .ok (.iload_n 2, 1) := dk_28 (dk_at dksX6_roundFigure_3 21 rfl rfl)
theorem dX6_roundFigure_92 : decode cX6_roundFigure 92 = .ok (.ireturn, 1) := dk_172 (dk_at dksX6_roundFigure_3 22 rfl rfl)
abbrev cX6_size : ByteArray := prog_20_method_5_code
def yX6_size : MethodName := ⟨RX6, "size", "(I)I"⟩
def dkwX6_size_0 : List UInt8 := [26, 156, 0, 8, 26, 116, 167, 0, 4, 26, 172]
abbrev dktX6_size_0 : List UInt8 := dkwX6_size_0 ++ []
theorem dksX6_size_0 : cX6_size.data.toList.drop 0 = dktX6_size_0 := by decide +kernel
theorem dX6_size_0 : decode cX6_size 0 = .ok (.iload_n 0, 1) := dk_26 (dk_at dksX6_size_0 0 rfl rfl)
theorem dX6_size_1 : decode cX6_size 1 = .ok (.ifCond .ge 8, 3) := dk_156 0 8 (dk_at dksX6_size_0 1 rfl rfl)
theorem dX6_size_4 : decode cX6_size 4 = .ok (.iload_n 0, 1) := dk_26 (dk_at dksX6_size_0 4 rfl rfl)
theorem dX6_size_5 : decode cX6_size 5 = .ok (.ineg, 1) := dk_116 (dk_at dksX6_size_0 5 rfl rfl)
theorem dX6_size_6 : decode cX6_size 6 = .ok (.goto 4, 3) := dk_167 0 4 (dk_at dksX6_size_0 6 rfl rfl)
theorem dX6_size_9 : decode cX6_size 9 = .ok (.iload_n 0, 1) := dk_26 (dk_at dksX6_size_0 9 rfl rfl)
theorem dX6_size_10 : decode cX6_size 10 = .ok (.ireturn, 1) := dk_172 (dk_at dksX6_size_0 10 rfl rfl)
abbrev cX6_ruin : ByteArray := prog_20_method_97_code
def yX6_ruin : MethodName := ⟨RX6, "ruin", "(III)I"⟩
def dkwX6_ruin_5 : List UInt8 := [154, 0, 11, 21, 4, 184, 1, 134, 167, 0, 5, 21, 4, 172]
abbrev dktX6_ruin_5 : List UInt8 := dkwX6_ruin_5 ++ []
def dkwX6_ruin_4 : List UInt8 := [156, 0, 12, 21, 5, 4, 21, 6, 120, 128, 54, 5, 132, 6, 1, 167, 255, 216, 167, 255, 199, 29]
abbrev dktX6_ruin_4 : List UInt8 := dkwX6_ruin_4 ++ dktX6_ruin_5
def dkwX6_ruin_3 : List UInt8 := [162, 0, 40, 21, 4, 21, 6, 184, 1, 120, 154, 0, 24, 42, 21, 6, 27, 21, 4, 182, 1, 131]
abbrev dktX6_ruin_3 : List UInt8 := dkwX6_ruin_3 ++ dktX6_ruin_4
def dkwX6_ruin_2 : List UInt8 := [54, 4, 4, 28, 120, 54, 5, 21, 5, 21, 4, 159, 0, 56, 21, 5, 54, 4, 3, 54, 6, 21, 6, 27]
abbrev dktX6_ruin_2 : List UInt8 := dkwX6_ruin_2 ++ dktX6_ruin_3
def dkwX6_ruin_1 : List UInt8 := [184, 0, 102, 153, 0, 13, 27, 27, 104, 42, 180, 0, 117, 164, 0, 5, 2, 172, 42, 3, 181, 0, 117, 3]
abbrev dktX6_ruin_1 : List UInt8 := dkwX6_ruin_1 ++ dktX6_ruin_2
def dkwX6_ruin_0 : List UInt8 := [27, 5, 16, 6, 184, 0, 102, 153, 0, 33, 28, 3, 27, 4, 100, 184, 0, 102, 153, 0, 22, 29, 3, 4]
abbrev dktX6_ruin_0 : List UInt8 := dkwX6_ruin_0 ++ dktX6_ruin_1
theorem dksX6_ruin_0 : cX6_ruin.data.toList.drop 0 = dktX6_ruin_0 := by decide +kernel
theorem dksX6_ruin_1 : cX6_ruin.data.toList.drop 24 = dktX6_ruin_1 := dk_seg dksX6_ruin_0 24 rfl rfl
theorem dksX6_ruin_2 : cX6_ruin.data.toList.drop 48 = dktX6_ruin_2 := dk_seg dksX6_ruin_1 24 rfl rfl
theorem dksX6_ruin_3 : cX6_ruin.data.toList.drop 72 = dktX6_ruin_3 := dk_seg dksX6_ruin_2 24 rfl rfl
theorem dksX6_ruin_4 : cX6_ruin.data.toList.drop 94 = dktX6_ruin_4 := dk_seg dksX6_ruin_3 22 rfl rfl
theorem dksX6_ruin_5 : cX6_ruin.data.toList.drop 116 = dktX6_ruin_5 := dk_seg dksX6_ruin_4 22 rfl rfl
theorem dX6_ruin_0 : decode cX6_ruin 0 = .ok (.iload_n 1, 1) := dk_27 (dk_at dksX6_ruin_0 0 rfl rfl)
theorem dX6_ruin_1 : decode cX6_ruin 1 = .ok (.iconst 2, 1) := dk_5 (dk_at dksX6_ruin_0 1 rfl rfl)
theorem dX6_ruin_2 : decode cX6_ruin 2 = .ok (.bipush 6, 2) := dk_16 6 (dk_at dksX6_ruin_0 2 rfl rfl)
theorem dX6_ruin_4 : decode cX6_ruin 4 = .ok (.invokestatic 102, 3) := dk_184 0 102 (dk_at dksX6_ruin_0 4 rfl rfl)
theorem dX6_ruin_7 : decode cX6_ruin 7 = .ok (.ifCond .eq 33, 3) := dk_153 0 33 (dk_at dksX6_ruin_0 7 rfl rfl)
theorem dX6_ruin_10 : decode cX6_ruin 10 = .ok (.iload_n 2, 1) := dk_28 (dk_at dksX6_ruin_0 10 rfl rfl)
theorem dX6_ruin_11 : decode cX6_ruin 11 = .ok (.iconst 0, 1) := dk_3 (dk_at dksX6_ruin_0 11 rfl rfl)
theorem dX6_ruin_12 : decode cX6_ruin 12 = .ok (.iload_n 1, 1) := dk_27 (dk_at dksX6_ruin_0 12 rfl rfl)
theorem dX6_ruin_13 : decode cX6_ruin 13 = .ok (.iconst 1, 1) := dk_4 (dk_at dksX6_ruin_0 13 rfl rfl)
theorem dX6_ruin_14 : decode cX6_ruin 14 = .ok (.isub, 1) := dk_100 (dk_at dksX6_ruin_0 14 rfl rfl)
theorem dX6_ruin_15 : decode cX6_ruin 15 = .ok (.invokestatic 102, 3) := dk_184 0 102 (dk_at dksX6_ruin_0 15 rfl rfl)
theorem dX6_ruin_18 : decode cX6_ruin 18 = .ok (.ifCond .eq 22, 3) := dk_153 0 22 (dk_at dksX6_ruin_0 18 rfl rfl)
theorem dX6_ruin_21 : decode cX6_ruin 21 = .ok (.iload_n 3, 1) := dk_29 (dk_at dksX6_ruin_0 21 rfl rfl)
theorem dX6_ruin_22 : decode cX6_ruin 22 = .ok (.iconst 0, 1) := dk_3 (dk_at dksX6_ruin_0 22 rfl rfl)
theorem dX6_ruin_23 : decode cX6_ruin 23 = .ok (.iconst 1, 1) := dk_4 (dk_at dksX6_ruin_0 23 rfl rfl)
theorem dX6_ruin_24 : decode cX6_ruin 24 = .ok (.invokestatic 102, 3) := dk_184 0 102 (dk_at dksX6_ruin_1 0 rfl rfl)
theorem dX6_ruin_27 : decode cX6_ruin 27 = .ok (.ifCond .eq 13, 3) := dk_153 0 13 (dk_at dksX6_ruin_1 3 rfl rfl)
theorem dX6_ruin_30 : decode cX6_ruin 30 = .ok (.iload_n 1, 1) := dk_27 (dk_at dksX6_ruin_1 6 rfl rfl)
theorem dX6_ruin_31 : decode cX6_ruin 31 = .ok (.iload_n 1, 1) := dk_27 (dk_at dksX6_ruin_1 7 rfl rfl)
theorem dX6_ruin_32 : decode cX6_ruin 32 = .ok (.imul, 1) := dk_104 (dk_at dksX6_ruin_1 8 rfl rfl)
theorem dX6_ruin_33 : decode cX6_ruin 33 = .ok (.aload_n 0, 1) := dk_42 (dk_at dksX6_ruin_1 9 rfl rfl)
theorem dX6_ruin_34 : decode cX6_ruin 34 = .ok (.getfield 117, 3) := dk_180 0 117 (dk_at dksX6_ruin_1 10 rfl rfl)
theorem dX6_ruin_37 : decode cX6_ruin 37 = .ok (.if_icmp .le 5, 3) := dk_164 0 5 (dk_at dksX6_ruin_1 13 rfl rfl)
theorem dX6_ruin_40 : decode cX6_ruin 40 = .ok (.iconst (-1), 1) := dk_2 (dk_at dksX6_ruin_1 16 rfl rfl)
theorem dX6_ruin_41 : decode cX6_ruin 41 = .ok (.ireturn, 1) := dk_172 (dk_at dksX6_ruin_1 17 rfl rfl)
theorem dX6_ruin_42 : decode cX6_ruin 42 = .ok (.aload_n 0, 1) := dk_42 (dk_at dksX6_ruin_1 18 rfl rfl)
theorem dX6_ruin_43 : decode cX6_ruin 43 = .ok (.iconst 0, 1) := dk_3 (dk_at dksX6_ruin_1 19 rfl rfl)
theorem dX6_ruin_44 : decode cX6_ruin 44 = .ok (.putfield 117, 3) := dk_181 0 117 (dk_at dksX6_ruin_1 20 rfl rfl)
theorem dX6_ruin_47 : decode cX6_ruin 47 = .ok (.iconst 0, 1) := dk_3 (dk_at dksX6_ruin_1 23 rfl rfl)
theorem dX6_ruin_48 : decode cX6_ruin 48 = .ok (.istore 4, 2) := dk_54 4 (dk_at dksX6_ruin_2 0 rfl rfl)
theorem dX6_ruin_50 : decode cX6_ruin 50 = .ok (.iconst 1, 1) := dk_4 (dk_at dksX6_ruin_2 2 rfl rfl)
theorem dX6_ruin_51 : decode cX6_ruin 51 = .ok (.iload_n 2, 1) := dk_28 (dk_at dksX6_ruin_2 3 rfl rfl)
theorem dX6_ruin_52 : decode cX6_ruin 52 = .ok (.ishl, 1) := dk_120 (dk_at dksX6_ruin_2 4 rfl rfl)
theorem dX6_ruin_53 : decode cX6_ruin 53 = .ok (.istore 5, 2) := dk_54 5 (dk_at dksX6_ruin_2 5 rfl rfl)
theorem dX6_ruin_55 : decode cX6_ruin 55 = .ok (.iload 5, 2) := dk_21 5 (dk_at dksX6_ruin_2 7 rfl rfl)
theorem dX6_ruin_57 : decode cX6_ruin 57 = .ok (.iload 4, 2) := dk_21 4 (dk_at dksX6_ruin_2 9 rfl rfl)
theorem dX6_ruin_59 : decode cX6_ruin 59 = .ok (.if_icmp .eq 56, 3) := dk_159 0 56 (dk_at dksX6_ruin_2 11 rfl rfl)
theorem dX6_ruin_62 : decode cX6_ruin 62 = .ok (.iload 5, 2) := dk_21 5 (dk_at dksX6_ruin_2 14 rfl rfl)
theorem dX6_ruin_64 : decode cX6_ruin 64 = .ok (.istore 4, 2) := dk_54 4 (dk_at dksX6_ruin_2 16 rfl rfl)
theorem dX6_ruin_66 : decode cX6_ruin 66 = .ok (.iconst 0, 1) := dk_3 (dk_at dksX6_ruin_2 18 rfl rfl)
theorem dX6_ruin_67 : decode cX6_ruin 67 = .ok (.istore 6, 2) := dk_54 6 (dk_at dksX6_ruin_2 19 rfl rfl)
theorem dX6_ruin_69 : decode cX6_ruin 69 = .ok (.iload 6, 2) := dk_21 6 (dk_at dksX6_ruin_2 21 rfl rfl)
theorem dX6_ruin_71 : decode cX6_ruin 71 = .ok (.iload_n 1, 1) := dk_27 (dk_at dksX6_ruin_2 23 rfl rfl)
theorem dX6_ruin_72 : decode cX6_ruin 72 = .ok (.if_icmp .ge 40, 3) := dk_162 0 40 (dk_at dksX6_ruin_3 0 rfl rfl)
theorem dX6_ruin_75 : decode cX6_ruin 75 = .ok (.iload 4, 2) := dk_21 4 (dk_at dksX6_ruin_3 3 rfl rfl)
theorem dX6_ruin_77 : decode cX6_ruin 77 = .ok (.iload 6, 2) := dk_21 6 (dk_at dksX6_ruin_3 5 rfl rfl)
theorem dX6_ruin_79 : decode cX6_ruin 79 = .ok (.invokestatic 376, 3) := dk_184 1 120 (dk_at dksX6_ruin_3 7 rfl rfl)
theorem dX6_ruin_82 : decode cX6_ruin 82 = .ok (.ifCond .ne 24, 3) := dk_154 0 24 (dk_at dksX6_ruin_3 10 rfl rfl)
theorem dX6_ruin_85 : decode cX6_ruin 85 = .ok (.aload_n 0, 1) := dk_42 (dk_at dksX6_ruin_3 13 rfl rfl)
theorem dX6_ruin_86 : decode cX6_ruin 86 = .ok (.iload 6, 2) := dk_21 6 (dk_at dksX6_ruin_3 14 rfl rfl)
theorem dX6_ruin_88 : decode cX6_ruin 88 = .ok (.iload_n 1, 1) := dk_27 (dk_at dksX6_ruin_3 16 rfl rfl)
theorem dX6_ruin_89 : decode cX6_ruin 89 = .ok (.iload 4, 2) := dk_21 4 (dk_at dksX6_ruin_3 17 rfl rfl)
theorem dX6_ruin_91 : decode cX6_ruin 91 = .ok (.invokevirtual 387, 3) := dk_182 1 131 (dk_at dksX6_ruin_3 19 rfl rfl)
theorem dX6_ruin_94 : decode cX6_ruin 94 = .ok (.ifCond .ge 12, 3) := dk_156 0 12 (dk_at dksX6_ruin_4 0 rfl rfl)
theorem dX6_ruin_97 : decode cX6_ruin 97 = .ok (.iload 5, 2) := dk_21 5 (dk_at dksX6_ruin_4 3 rfl rfl)
theorem dX6_ruin_99 : decode cX6_ruin 99 = .ok (.iconst 1, 1) := dk_4 (dk_at dksX6_ruin_4 5 rfl rfl)
theorem dX6_ruin_100 : decode cX6_ruin 100 = .ok (.iload 6, 2) := dk_21 6 (dk_at dksX6_ruin_4 6 rfl rfl)
theorem dX6_ruin_102 : decode cX6_ruin 102 = .ok (.ishl, 1) := dk_120 (dk_at dksX6_ruin_4 8 rfl rfl)
theorem dX6_ruin_103 : decode cX6_ruin 103 = .ok (.ior, 1) := dk_128 (dk_at dksX6_ruin_4 9 rfl rfl)
theorem dX6_ruin_104 : decode cX6_ruin 104 = .ok (.istore 5, 2) := dk_54 5 (dk_at dksX6_ruin_4 10 rfl rfl)
theorem dX6_ruin_106 : decode cX6_ruin 106 = .ok (.iinc 6 1, 3) := dk_132 6 1 (dk_at dksX6_ruin_4 12 rfl rfl)
theorem dX6_ruin_109 : decode cX6_ruin 109 = .ok (.goto (-40), 3) := dk_167 255 216 (dk_at dksX6_ruin_4 15 rfl rfl)
theorem dX6_ruin_112 : decode cX6_ruin 112 = .ok (.goto (-57), 3) := dk_167 255 199 (dk_at dksX6_ruin_4 18 rfl rfl)
theorem dX6_ruin_115 : decode cX6_ruin 115 = .ok (.iload_n 3, 1) := dk_29 (dk_at dksX6_ruin_4 21 rfl rfl)
theorem dX6_ruin_116 : decode cX6_ruin 116 = .ok (.ifCond .ne 11, 3) := dk_154 0 11 (dk_at dksX6_ruin_5 0 rfl rfl)
theorem dX6_ruin_119 : decode cX6_ruin 119 = .ok (.iload 4, 2) := dk_21 4 (dk_at dksX6_ruin_5 3 rfl rfl)
theorem dX6_ruin_121 : decode cX6_ruin 121 = .ok (.invokestatic 390, 3) := dk_184 1 134 (dk_at dksX6_ruin_5 5 rfl rfl)
theorem dX6_ruin_124 : decode cX6_ruin 124 = .ok (.goto 5, 3) := dk_167 0 5 (dk_at dksX6_ruin_5 8 rfl rfl)
theorem dX6_ruin_127 : decode cX6_ruin 127 = .ok (.iload 4, 2) := dk_21 4 (dk_at dksX6_ruin_5 11 rfl rfl)
theorem dX6_ruin_129 : decode cX6_ruin 129 = .ok (.ireturn, 1) := dk_172 (dk_at dksX6_ruin_5 13 rfl rfl)
abbrev cX6_restOf : ByteArray := prog_20_method_96_code
def yX6_restOf : MethodName := ⟨RX6, "restOf", "(III)I"⟩
def dkwX6_restOf_2 : List UInt8 := [96, 42, 28, 27, 104, 21, 5, 96, 182, 1, 123, 100, 54, 4, 132, 5, 1, 167, 255, 206, 21, 4, 172]
abbrev dktX6_restOf_2 : List UInt8 := dkwX6_restOf_2 ++ []
def dkwX6_restOf_1 : List UInt8 := [159, 0, 38, 29, 21, 5, 184, 1, 120, 154, 0, 29, 21, 4, 42, 28, 21, 5, 104, 27, 96, 182, 1, 123]
abbrev dktX6_restOf_1 : List UInt8 := dkwX6_restOf_1 ++ dktX6_restOf_2
def dkwX6_restOf_0 : List UInt8 := [42, 28, 27, 104, 27, 96, 182, 1, 123, 54, 4, 3, 54, 5, 21, 5, 28, 162, 0, 50, 21, 5, 27]
abbrev dktX6_restOf_0 : List UInt8 := dkwX6_restOf_0 ++ dktX6_restOf_1
theorem dksX6_restOf_0 : cX6_restOf.data.toList.drop 0 = dktX6_restOf_0 := by decide +kernel
theorem dksX6_restOf_1 : cX6_restOf.data.toList.drop 23 = dktX6_restOf_1 := dk_seg dksX6_restOf_0 23 rfl rfl
theorem dksX6_restOf_2 : cX6_restOf.data.toList.drop 47 = dktX6_restOf_2 := dk_seg dksX6_restOf_1 24 rfl rfl
theorem dX6_restOf_0 : decode cX6_restOf 0 = .ok (.aload_n 0, 1) := dk_42 (dk_at dksX6_restOf_0 0 rfl rfl)
theorem dX6_restOf_1 : decode cX6_restOf 1 = .ok (.iload_n 2, 1) := dk_28 (dk_at dksX6_restOf_0 1 rfl rfl)
theorem dX6_restOf_2 : decode cX6_restOf 2 = .ok (.iload_n 1, 1) := dk_27 (dk_at dksX6_restOf_0 2 rfl rfl)
theorem dX6_restOf_3 : decode cX6_restOf 3 = .ok (.imul, 1) := dk_104 (dk_at dksX6_restOf_0 3 rfl rfl)
theorem dX6_restOf_4 : decode cX6_restOf 4 = .ok (.iload_n 1, 1) := dk_27 (dk_at dksX6_restOf_0 4 rfl rfl)
theorem dX6_restOf_5 : decode cX6_restOf 5 = .ok (.iadd, 1) := dk_96 (dk_at dksX6_restOf_0 5 rfl rfl)
theorem dX6_restOf_6 : decode cX6_restOf 6 = .ok (.invokevirtual 379, 3) := dk_182 1 123 (dk_at dksX6_restOf_0 6 rfl rfl)
theorem dX6_restOf_9 : decode cX6_restOf 9 = .ok (.istore 4, 2) := dk_54 4 (dk_at dksX6_restOf_0 9 rfl rfl)
theorem dX6_restOf_11 : decode cX6_restOf 11 = .ok (.iconst 0, 1) := dk_3 (dk_at dksX6_restOf_0 11 rfl rfl)
theorem dX6_restOf_12 : decode cX6_restOf 12 = .ok (.istore 5, 2) := dk_54 5 (dk_at dksX6_restOf_0 12 rfl rfl)
theorem dX6_restOf_14 : decode cX6_restOf 14 = .ok (.iload 5, 2) := dk_21 5 (dk_at dksX6_restOf_0 14 rfl rfl)
theorem dX6_restOf_16 : decode cX6_restOf 16 = .ok (.iload_n 2, 1) := dk_28 (dk_at dksX6_restOf_0 16 rfl rfl)
theorem dX6_restOf_17 : decode cX6_restOf 17 = .ok (.if_icmp .ge 50, 3) := dk_162 0 50 (dk_at dksX6_restOf_0 17 rfl rfl)
theorem dX6_restOf_20 : decode cX6_restOf 20 = .ok (.iload 5, 2) := dk_21 5 (dk_at dksX6_restOf_0 20 rfl rfl)
theorem dX6_restOf_22 : decode cX6_restOf 22 = .ok (.iload_n 1, 1) := dk_27 (dk_at dksX6_restOf_0 22 rfl rfl)
theorem dX6_restOf_23 : decode cX6_restOf 23 = .ok (.if_icmp .eq 38, 3) := dk_159 0 38 (dk_at dksX6_restOf_1 0 rfl rfl)
theorem dX6_restOf_26 : decode cX6_restOf 26 = .ok (.iload_n 3, 1) := dk_29 (dk_at dksX6_restOf_1 3 rfl rfl)
theorem dX6_restOf_27 : decode cX6_restOf 27 = .ok (.iload 5, 2) := dk_21 5 (dk_at dksX6_restOf_1 4 rfl rfl)
theorem dX6_restOf_29 : decode cX6_restOf 29 = .ok (.invokestatic 376, 3) := dk_184 1 120 (dk_at dksX6_restOf_1 6 rfl rfl)
theorem dX6_restOf_32 : decode cX6_restOf 32 = .ok (.ifCond .ne 29, 3) := dk_154 0 29 (dk_at dksX6_restOf_1 9 rfl rfl)
theorem dX6_restOf_35 : decode cX6_restOf 35 = .ok (.iload 4, 2) := dk_21 4 (dk_at dksX6_restOf_1 12 rfl rfl)
theorem dX6_restOf_37 : decode cX6_restOf 37 = .ok (.aload_n 0, 1) := dk_42 (dk_at dksX6_restOf_1 14 rfl rfl)
theorem dX6_restOf_38 : decode cX6_restOf 38 = .ok (.iload_n 2, 1) := dk_28 (dk_at dksX6_restOf_1 15 rfl rfl)
theorem dX6_restOf_39 : decode cX6_restOf 39 = .ok (.iload 5, 2) := dk_21 5 (dk_at dksX6_restOf_1 16 rfl rfl)
theorem dX6_restOf_41 : decode cX6_restOf 41 = .ok (.imul, 1) := dk_104 (dk_at dksX6_restOf_1 18 rfl rfl)
theorem dX6_restOf_42 : decode cX6_restOf 42 = .ok (.iload_n 1, 1) := dk_27 (dk_at dksX6_restOf_1 19 rfl rfl)
theorem dX6_restOf_43 : decode cX6_restOf 43 = .ok (.iadd, 1) := dk_96 (dk_at dksX6_restOf_1 20 rfl rfl)
theorem dX6_restOf_44 : decode cX6_restOf 44 = .ok (.invokevirtual 379, 3) := dk_182 1 123 (dk_at dksX6_restOf_1 21 rfl rfl)
theorem dX6_restOf_47 : decode cX6_restOf 47 = .ok (.iadd, 1) := dk_96 (dk_at dksX6_restOf_2 0 rfl rfl)
theorem dX6_restOf_48 : decode cX6_restOf 48 = .ok (.aload_n 0, 1) := dk_42 (dk_at dksX6_restOf_2 1 rfl rfl)
theorem dX6_restOf_49 : decode cX6_restOf 49 = .ok (.iload_n 2, 1) := dk_28 (dk_at dksX6_restOf_2 2 rfl rfl)
theorem dX6_restOf_50 : decode cX6_restOf 50 = .ok (.iload_n 1, 1) := dk_27 (dk_at dksX6_restOf_2 3 rfl rfl)
theorem dX6_restOf_51 : decode cX6_restOf 51 = .ok (.imul, 1) := dk_104 (dk_at dksX6_restOf_2 4 rfl rfl)
theorem dX6_restOf_52 : decode cX6_restOf 52 = .ok (.iload 5, 2) := dk_21 5 (dk_at dksX6_restOf_2 5 rfl rfl)
theorem dX6_restOf_54 : decode cX6_restOf 54 = .ok (.iadd, 1) := dk_96 (dk_at dksX6_restOf_2 7 rfl rfl)
theorem dX6_restOf_55 : decode cX6_restOf 55 = .ok (.invokevirtual 379, 3) := dk_182 1 123 (dk_at dksX6_restOf_2 8 rfl rfl)
theorem dX6_restOf_58 : decode cX6_restOf 58 = .ok (.isub, 1) := dk_100 (dk_at dksX6_restOf_2 11 rfl rfl)
theorem dX6_restOf_59 : decode cX6_restOf 59 = .ok (.istore 4, 2) := dk_54 4 (dk_at dksX6_restOf_2 12 rfl rfl)
theorem dX6_restOf_61 : decode cX6_restOf 61 = .ok (.iinc 5 1, 3) := dk_132 5 1 (dk_at dksX6_restOf_2 14 rfl rfl)
theorem dX6_restOf_64 : decode cX6_restOf 64 = .ok (.goto (-50), 3) := dk_167 255 206 (dk_at dksX6_restOf_2 17 rfl rfl)
theorem dX6_restOf_67 : decode cX6_restOf 67 = .ok (.iload 4, 2) := dk_21 4 (dk_at dksX6_restOf_2 20 rfl rfl)
theorem dX6_restOf_69 : decode cX6_restOf 69 = .ok (.ireturn, 1) := dk_172 (dk_at dksX6_restOf_2 22 rfl rfl)
abbrev cX6_bits : ByteArray := prog_20_method_7_code
def yX6_bits : MethodName := ⟨RX6, "bits", "(I)I"⟩
def dkwX6_bits_1 : List UInt8 := [27, 172]
abbrev dktX6_bits_1 : List UInt8 := dkwX6_bits_1 ++ []
def dkwX6_bits_0 : List UInt8 := [3, 60, 3, 61, 28, 16, 24, 162, 0, 17, 27, 26, 28, 122, 4, 126, 96, 60, 132, 2, 1, 167, 255, 239]
abbrev dktX6_bits_0 : List UInt8 := dkwX6_bits_0 ++ dktX6_bits_1
theorem dksX6_bits_0 : cX6_bits.data.toList.drop 0 = dktX6_bits_0 := by decide +kernel
theorem dksX6_bits_1 : cX6_bits.data.toList.drop 24 = dktX6_bits_1 := dk_seg dksX6_bits_0 24 rfl rfl
theorem dX6_bits_0 : decode cX6_bits 0 = .ok (.iconst 0, 1) := dk_3 (dk_at dksX6_bits_0 0 rfl rfl)
theorem dX6_bits_1 : decode cX6_bits 1 = .ok (.istore_n 1, 1) := dk_60 (dk_at dksX6_bits_0 1 rfl rfl)
theorem dX6_bits_2 : decode cX6_bits 2 = .ok (.iconst 0, 1) := dk_3 (dk_at dksX6_bits_0 2 rfl rfl)
theorem dX6_bits_3 : decode cX6_bits 3 = .ok (.istore_n 2, 1) := dk_61 (dk_at dksX6_bits_0 3 rfl rfl)
theorem dX6_bits_4 : decode cX6_bits 4 = .ok (.iload_n 2, 1) := dk_28 (dk_at dksX6_bits_0 4 rfl rfl)
theorem dX6_bits_5 : decode cX6_bits 5 = .ok (.bipush 24, 2) := dk_16 24 (dk_at dksX6_bits_0 5 rfl rfl)
theorem dX6_bits_7 : decode cX6_bits 7 = .ok (.if_icmp .ge 17, 3) := dk_162 0 17 (dk_at dksX6_bits_0 7 rfl rfl)
theorem dX6_bits_10 : decode cX6_bits 10 = .ok (.iload_n 1, 1) := dk_27 (dk_at dksX6_bits_0 10 rfl rfl)
theorem dX6_bits_11 : decode cX6_bits 11 = .ok (.iload_n 0, 1) := dk_26 (dk_at dksX6_bits_0 11 rfl rfl)
theorem dX6_bits_12 : decode cX6_bits 12 = .ok (.iload_n 2, 1) := dk_28 (dk_at dksX6_bits_0 12 rfl rfl)
theorem dX6_bits_13 : decode cX6_bits 13 = .ok (.ishr, 1) := dk_122 (dk_at dksX6_bits_0 13 rfl rfl)
theorem dX6_bits_14 : decode cX6_bits 14 = .ok (.iconst 1, 1) := dk_4 (dk_at dksX6_bits_0 14 rfl rfl)
theorem dX6_bits_15 : decode cX6_bits 15 = .ok (.iand, 1) := dk_126 (dk_at dksX6_bits_0 15 rfl rfl)
theorem dX6_bits_16 : decode cX6_bits 16 = .ok (.iadd, 1) := dk_96 (dk_at dksX6_bits_0 16 rfl rfl)
theorem dX6_bits_17 : decode cX6_bits 17 = .ok (.istore_n 1, 1) := dk_60 (dk_at dksX6_bits_0 17 rfl rfl)
theorem dX6_bits_18 : decode cX6_bits 18 = .ok (.iinc 2 1, 3) := dk_132 2 1 (dk_at dksX6_bits_0 18 rfl rfl)
theorem dX6_bits_21 : decode cX6_bits 21 = .ok (.goto (-17), 3) := dk_167 255 239 (dk_at dksX6_bits_0 21 rfl rfl)
theorem dX6_bits_24 : decode cX6_bits 24 = .ok (.iload_n 1, 1) := dk_27 (dk_at dksX6_bits_1 0 rfl rfl)
theorem dX6_bits_25 : decode cX6_bits 25 = .ok (.ireturn, 1) := dk_172 (dk_at dksX6_bits_1 1 rfl rfl)
abbrev cX6_carried : ByteArray := prog_20_method_100_code
def yX6_carried : MethodName := ⟨RX6, "carried", "(I)I"⟩
def dkwX6_carried_3 : List UInt8 := [120, 162, 0, 20, 28, 42, 29, 27, 182, 1, 140, 184, 1, 117, 61, 132, 3, 1, 167, 255, 235, 28, 172]
abbrev dktX6_carried_3 : List UInt8 := dkwX6_carried_3 ++ []
def dkwX6_carried_2 : List UInt8 := [154, 0, 6, 16, 254, 172, 132, 2, 1, 167, 255, 229, 42, 27, 182, 1, 137, 3, 61, 3, 62, 29, 4, 27]
abbrev dktX6_carried_2 : List UInt8 := dkwX6_carried_2 ++ dktX6_carried_3
def dkwX6_carried_1 : List UInt8 := [181, 0, 117, 3, 61, 28, 27, 162, 0, 28, 42, 6, 28, 104, 182, 1, 123, 4, 16, 60, 184, 0, 102]
abbrev dktX6_carried_1 : List UInt8 := dkwX6_carried_1 ++ dktX6_carried_2
def dkwX6_carried_0 : List UInt8 := [27, 4, 16, 10, 184, 0, 102, 153, 0, 13, 6, 27, 104, 42, 180, 0, 117, 164, 0, 5, 2, 172, 42, 3]
abbrev dktX6_carried_0 : List UInt8 := dkwX6_carried_0 ++ dktX6_carried_1
theorem dksX6_carried_0 : cX6_carried.data.toList.drop 0 = dktX6_carried_0 := by decide +kernel
theorem dksX6_carried_1 : cX6_carried.data.toList.drop 24 = dktX6_carried_1 := dk_seg dksX6_carried_0 24 rfl rfl
theorem dksX6_carried_2 : cX6_carried.data.toList.drop 47 = dktX6_carried_2 := dk_seg dksX6_carried_1 23 rfl rfl
theorem dksX6_carried_3 : cX6_carried.data.toList.drop 71 = dktX6_carried_3 := dk_seg dksX6_carried_2 24 rfl rfl
theorem dX6_carried_0 : decode cX6_carried 0 = .ok (.iload_n 1, 1) := dk_27 (dk_at dksX6_carried_0 0 rfl rfl)
theorem dX6_carried_1 : decode cX6_carried 1 = .ok (.iconst 1, 1) := dk_4 (dk_at dksX6_carried_0 1 rfl rfl)
theorem dX6_carried_2 : decode cX6_carried 2 = .ok (.bipush 10, 2) := dk_16 10 (dk_at dksX6_carried_0 2 rfl rfl)
theorem dX6_carried_4 : decode cX6_carried 4 = .ok (.invokestatic 102, 3) := dk_184 0 102 (dk_at dksX6_carried_0 4 rfl rfl)
theorem dX6_carried_7 : decode cX6_carried 7 = .ok (.ifCond .eq 13, 3) := dk_153 0 13 (dk_at dksX6_carried_0 7 rfl rfl)
theorem dX6_carried_10 : decode cX6_carried 10 = .ok (.iconst 3, 1) := dk_6 (dk_at dksX6_carried_0 10 rfl rfl)
theorem dX6_carried_11 : decode cX6_carried 11 = .ok (.iload_n 1, 1) := dk_27 (dk_at dksX6_carried_0 11 rfl rfl)
theorem dX6_carried_12 : decode cX6_carried 12 = .ok (.imul, 1) := dk_104 (dk_at dksX6_carried_0 12 rfl rfl)
theorem dX6_carried_13 : decode cX6_carried 13 = .ok (.aload_n 0, 1) := dk_42 (dk_at dksX6_carried_0 13 rfl rfl)
theorem dX6_carried_14 : decode cX6_carried 14 = .ok (.getfield 117, 3) := dk_180 0 117 (dk_at dksX6_carried_0 14 rfl rfl)
theorem dX6_carried_17 : decode cX6_carried 17 = .ok (.if_icmp .le 5, 3) := dk_164 0 5 (dk_at dksX6_carried_0 17 rfl rfl)
theorem dX6_carried_20 : decode cX6_carried 20 = .ok (.iconst (-1), 1) := dk_2 (dk_at dksX6_carried_0 20 rfl rfl)
theorem dX6_carried_21 : decode cX6_carried 21 = .ok (.ireturn, 1) := dk_172 (dk_at dksX6_carried_0 21 rfl rfl)
theorem dX6_carried_22 : decode cX6_carried 22 = .ok (.aload_n 0, 1) := dk_42 (dk_at dksX6_carried_0 22 rfl rfl)
theorem dX6_carried_23 : decode cX6_carried 23 = .ok (.iconst 0, 1) := dk_3 (dk_at dksX6_carried_0 23 rfl rfl)
theorem dX6_carried_24 : decode cX6_carried 24 = .ok (.putfield 117, 3) := dk_181 0 117 (dk_at dksX6_carried_1 0 rfl rfl)
theorem dX6_carried_27 : decode cX6_carried 27 = .ok (.iconst 0, 1) := dk_3 (dk_at dksX6_carried_1 3 rfl rfl)
theorem dX6_carried_28 : decode cX6_carried 28 = .ok (.istore_n 2, 1) := dk_61 (dk_at dksX6_carried_1 4 rfl rfl)
theorem dX6_carried_29 : decode cX6_carried 29 = .ok (.iload_n 2, 1) := dk_28 (dk_at dksX6_carried_1 5 rfl rfl)
theorem dX6_carried_30 : decode cX6_carried 30 = .ok (.iload_n 1, 1) := dk_27 (dk_at dksX6_carried_1 6 rfl rfl)
theorem dX6_carried_31 : decode cX6_carried 31 = .ok (.if_icmp .ge 28, 3) := dk_162 0 28 (dk_at dksX6_carried_1 7 rfl rfl)
theorem dX6_carried_34 : decode cX6_carried 34 = .ok (.aload_n 0, 1) := dk_42 (dk_at dksX6_carried_1 10 rfl rfl)
theorem dX6_carried_35 : decode cX6_carried 35 = .ok (.iconst 3, 1) := dk_6 (dk_at dksX6_carried_1 11 rfl rfl)
theorem dX6_carried_36 : decode cX6_carried 36 = .ok (.iload_n 2, 1) := dk_28 (dk_at dksX6_carried_1 12 rfl rfl)
theorem dX6_carried_37 : decode cX6_carried 37 = .ok (.imul, 1) := dk_104 (dk_at dksX6_carried_1 13 rfl rfl)
theorem dX6_carried_38 : decode cX6_carried 38 = .ok (.invokevirtual 379, 3) := dk_182 1 123 (dk_at dksX6_carried_1 14 rfl rfl)
theorem dX6_carried_41 : decode cX6_carried 41 = .ok (.iconst 1, 1) := dk_4 (dk_at dksX6_carried_1 17 rfl rfl)
theorem dX6_carried_42 : decode cX6_carried 42 = .ok (.bipush 60, 2) := dk_16 60 (dk_at dksX6_carried_1 18 rfl rfl)
theorem dX6_carried_44 : decode cX6_carried 44 = .ok (.invokestatic 102, 3) := dk_184 0 102 (dk_at dksX6_carried_1 20 rfl rfl)
theorem dX6_carried_47 : decode cX6_carried 47 = .ok (.ifCond .ne 6, 3) := dk_154 0 6 (dk_at dksX6_carried_2 0 rfl rfl)
theorem dX6_carried_50 : decode cX6_carried 50 = .ok (.bipush (-2), 2) := dk_16 254 (dk_at dksX6_carried_2 3 rfl rfl)
theorem dX6_carried_52 : decode cX6_carried 52 = .ok (.ireturn, 1) := dk_172 (dk_at dksX6_carried_2 5 rfl rfl)
theorem dX6_carried_53 : decode cX6_carried 53 = .ok (.iinc 2 1, 3) := dk_132 2 1 (dk_at dksX6_carried_2 6 rfl rfl)
theorem dX6_carried_56 : decode cX6_carried 56 = .ok (.goto (-27), 3) := dk_167 255 229 (dk_at dksX6_carried_2 9 rfl rfl)
theorem dX6_carried_59 : decode cX6_carried 59 = .ok (.aload_n 0, 1) := dk_42 (dk_at dksX6_carried_2 12 rfl rfl)
theorem dX6_carried_60 : decode cX6_carried 60 = .ok (.iload_n 1, 1) := dk_27 (dk_at dksX6_carried_2 13 rfl rfl)
theorem dX6_carried_61 : decode cX6_carried 61 = .ok (.invokevirtual 393, 3) := dk_182 1 137 (dk_at dksX6_carried_2 14 rfl rfl)
theorem dX6_carried_64 : decode cX6_carried 64 = .ok (.iconst 0, 1) := dk_3 (dk_at dksX6_carried_2 17 rfl rfl)
theorem dX6_carried_65 : decode cX6_carried 65 = .ok (.istore_n 2, 1) := dk_61 (dk_at dksX6_carried_2 18 rfl rfl)
theorem dX6_carried_66 : decode cX6_carried 66 = .ok (.iconst 0, 1) := dk_3 (dk_at dksX6_carried_2 19 rfl rfl)
theorem dX6_carried_67 : decode cX6_carried 67 = .ok (.istore_n 3, 1) := dk_62 (dk_at dksX6_carried_2 20 rfl rfl)
theorem dX6_carried_68 : decode cX6_carried 68 = .ok (.iload_n 3, 1) := dk_29 (dk_at dksX6_carried_2 21 rfl rfl)
theorem dX6_carried_69 : decode cX6_carried 69 = .ok (.iconst 1, 1) := dk_4 (dk_at dksX6_carried_2 22 rfl rfl)
theorem dX6_carried_70 : decode cX6_carried 70 = .ok (.iload_n 1, 1) := dk_27 (dk_at dksX6_carried_2 23 rfl rfl)
theorem dX6_carried_71 : decode cX6_carried 71 = .ok (.ishl, 1) := dk_120 (dk_at dksX6_carried_3 0 rfl rfl)
theorem dX6_carried_72 : decode cX6_carried 72 = .ok (.if_icmp .ge 20, 3) := dk_162 0 20 (dk_at dksX6_carried_3 1 rfl rfl)
theorem dX6_carried_75 : decode cX6_carried 75 = .ok (.iload_n 2, 1) := dk_28 (dk_at dksX6_carried_3 4 rfl rfl)
theorem dX6_carried_76 : decode cX6_carried 76 = .ok (.aload_n 0, 1) := dk_42 (dk_at dksX6_carried_3 5 rfl rfl)
theorem dX6_carried_77 : decode cX6_carried 77 = .ok (.iload_n 3, 1) := dk_29 (dk_at dksX6_carried_3 6 rfl rfl)
theorem dX6_carried_78 : decode cX6_carried 78 = .ok (.iload_n 1, 1) := dk_27 (dk_at dksX6_carried_3 7 rfl rfl)
theorem dX6_carried_79 : decode cX6_carried 79 = .ok (.invokevirtual 396, 3) := dk_182 1 140 (dk_at dksX6_carried_3 8 rfl rfl)
theorem dX6_carried_82 : decode cX6_carried 82 = .ok (.invokestatic 373, 3) := dk_184 1 117 (dk_at dksX6_carried_3 11 rfl rfl)
theorem dX6_carried_85 : decode cX6_carried 85 = .ok (.istore_n 2, 1) := dk_61 (dk_at dksX6_carried_3 14 rfl rfl)
theorem dX6_carried_86 : decode cX6_carried 86 = .ok (.iinc 3 1, 3) := dk_132 3 1 (dk_at dksX6_carried_3 15 rfl rfl)
theorem dX6_carried_89 : decode cX6_carried 89 = .ok (.goto (-21), 3) := dk_167 255 235 (dk_at dksX6_carried_3 18 rfl rfl)
theorem dX6_carried_92 : decode cX6_carried 92 = .ok (.iload_n 2, 1) := dk_28 (dk_at dksX6_carried_3 21 rfl rfl)
theorem dX6_carried_93 : decode cX6_carried 93 = .ok (.ireturn, 1) := dk_172 (dk_at dksX6_carried_3 22 rfl rfl)
abbrev cX6_laysRow : ByteArray := prog_20_method_98_code
def yX6_laysRow : MethodName := ⟨RX6, "laysRow", "(I)V"⟩
def dkwX6_laysRow_3 : List UInt8 := [132, 2, 1, 167, 255, 186, 177]
abbrev dktX6_laysRow_3 : List UInt8 := dkwX6_laysRow_3 ++ []
def dkwX6_laysRow_2 : List UInt8 := [180, 0, 99, 29, 4, 100, 46, 79, 29, 4, 100, 62, 167, 255, 206, 42, 180, 0, 99, 29, 28, 79]
abbrev dktX6_laysRow_2 : List UInt8 := dkwX6_laysRow_2 ++ dktX6_laysRow_3
def dkwX6_laysRow_1 : List UInt8 := [5, 96, 182, 1, 123, 42, 6, 28, 104, 5, 96, 182, 1, 123, 164, 0, 24, 42, 180, 0, 99, 29, 42]
abbrev dktX6_laysRow_1 : List UInt8 := dkwX6_laysRow_1 ++ dktX6_laysRow_2
def dkwX6_laysRow_0 : List UInt8 := [3, 61, 28, 27, 162, 0, 71, 28, 62, 29, 158, 0, 52, 42, 6, 42, 180, 0, 99, 29, 4, 100, 46, 104]
abbrev dktX6_laysRow_0 : List UInt8 := dkwX6_laysRow_0 ++ dktX6_laysRow_1
theorem dksX6_laysRow_0 : cX6_laysRow.data.toList.drop 0 = dktX6_laysRow_0 := by decide +kernel
theorem dksX6_laysRow_1 : cX6_laysRow.data.toList.drop 24 = dktX6_laysRow_1 := dk_seg dksX6_laysRow_0 24 rfl rfl
theorem dksX6_laysRow_2 : cX6_laysRow.data.toList.drop 47 = dktX6_laysRow_2 := dk_seg dksX6_laysRow_1 23 rfl rfl
theorem dksX6_laysRow_3 : cX6_laysRow.data.toList.drop 69 = dktX6_laysRow_3 := dk_seg dksX6_laysRow_2 22 rfl rfl
theorem dX6_laysRow_0 : decode cX6_laysRow 0 = .ok (.iconst 0, 1) := dk_3 (dk_at dksX6_laysRow_0 0 rfl rfl)
theorem dX6_laysRow_1 : decode cX6_laysRow 1 = .ok (.istore_n 2, 1) := dk_61 (dk_at dksX6_laysRow_0 1 rfl rfl)
theorem dX6_laysRow_2 : decode cX6_laysRow 2 = .ok (.iload_n 2, 1) := dk_28 (dk_at dksX6_laysRow_0 2 rfl rfl)
theorem dX6_laysRow_3 : decode cX6_laysRow 3 = .ok (.iload_n 1, 1) := dk_27 (dk_at dksX6_laysRow_0 3 rfl rfl)
theorem dX6_laysRow_4 : decode cX6_laysRow 4 = .ok (.if_icmp .ge 71, 3) := dk_162 0 71 (dk_at dksX6_laysRow_0 4 rfl rfl)
theorem dX6_laysRow_7 : decode cX6_laysRow 7 = .ok (.iload_n 2, 1) := dk_28 (dk_at dksX6_laysRow_0 7 rfl rfl)
theorem dX6_laysRow_8 : decode cX6_laysRow 8 = .ok (.istore_n 3, 1) := dk_62 (dk_at dksX6_laysRow_0 8 rfl rfl)
theorem dX6_laysRow_9 : decode cX6_laysRow 9 = .ok (.iload_n 3, 1) := dk_29 (dk_at dksX6_laysRow_0 9 rfl rfl)
theorem dX6_laysRow_10 : decode cX6_laysRow 10 = .ok (.ifCond .le 52, 3) := dk_158 0 52 (dk_at dksX6_laysRow_0 10 rfl rfl)
theorem dX6_laysRow_13 : decode cX6_laysRow 13 = .ok (.aload_n 0, 1) := dk_42 (dk_at dksX6_laysRow_0 13 rfl rfl)
theorem dX6_laysRow_14 : decode cX6_laysRow 14 = .ok (.iconst 3, 1) := dk_6 (dk_at dksX6_laysRow_0 14 rfl rfl)
theorem dX6_laysRow_15 : decode cX6_laysRow 15 = .ok (.aload_n 0, 1) := dk_42 (dk_at dksX6_laysRow_0 15 rfl rfl)
theorem dX6_laysRow_16 : decode cX6_laysRow 16 = .ok (.getfield 99, 3) := dk_180 0 99 (dk_at dksX6_laysRow_0 16 rfl rfl)
theorem dX6_laysRow_19 : decode cX6_laysRow 19 = .ok (.iload_n 3, 1) := dk_29 (dk_at dksX6_laysRow_0 19 rfl rfl)
theorem dX6_laysRow_20 : decode cX6_laysRow 20 = .ok (.iconst 1, 1) := dk_4 (dk_at dksX6_laysRow_0 20 rfl rfl)
theorem dX6_laysRow_21 : decode cX6_laysRow 21 = .ok (.isub, 1) := dk_100 (dk_at dksX6_laysRow_0 21 rfl rfl)
theorem dX6_laysRow_22 : decode cX6_laysRow 22 = .ok (.iaload, 1) := dk_46 (dk_at dksX6_laysRow_0 22 rfl rfl)
theorem dX6_laysRow_23 : decode cX6_laysRow 23 = .ok (.imul, 1) := dk_104 (dk_at dksX6_laysRow_0 23 rfl rfl)
theorem dX6_laysRow_24 : decode cX6_laysRow 24 = .ok (.iconst 2, 1) := dk_5 (dk_at dksX6_laysRow_1 0 rfl rfl)
theorem dX6_laysRow_25 : decode cX6_laysRow 25 = .ok (.iadd, 1) := dk_96 (dk_at dksX6_laysRow_1 1 rfl rfl)
theorem dX6_laysRow_26 : decode cX6_laysRow 26 = .ok (.invokevirtual 379, 3) := dk_182 1 123 (dk_at dksX6_laysRow_1 2 rfl rfl)
theorem dX6_laysRow_29 : decode cX6_laysRow 29 = .ok (.aload_n 0, 1) := dk_42 (dk_at dksX6_laysRow_1 5 rfl rfl)
theorem dX6_laysRow_30 : decode cX6_laysRow 30 = .ok (.iconst 3, 1) := dk_6 (dk_at dksX6_laysRow_1 6 rfl rfl)
theorem dX6_laysRow_31 : decode cX6_laysRow 31 = .ok (.iload_n 2, 1) := dk_28 (dk_at dksX6_laysRow_1 7 rfl rfl)
theorem dX6_laysRow_32 : decode cX6_laysRow 32 = .ok (.imul, 1) := dk_104 (dk_at dksX6_laysRow_1 8 rfl rfl)
theorem dX6_laysRow_33 : decode cX6_laysRow 33 = .ok (.iconst 2, 1) := dk_5 (dk_at dksX6_laysRow_1 9 rfl rfl)
theorem dX6_laysRow_34 : decode cX6_laysRow 34 = .ok (.iadd, 1) := dk_96 (dk_at dksX6_laysRow_1 10 rfl rfl)
theorem dX6_laysRow_35 : decode cX6_laysRow 35 = .ok (.invokevirtual 379, 3) := dk_182 1 123 (dk_at dksX6_laysRow_1 11 rfl rfl)
theorem dX6_laysRow_38 : decode cX6_laysRow 38 = .ok (.if_icmp .le 24, 3) := dk_164 0 24 (dk_at dksX6_laysRow_1 14 rfl rfl)
theorem dX6_laysRow_41 : decode cX6_laysRow 41 = .ok (.aload_n 0, 1) := dk_42 (dk_at dksX6_laysRow_1 17 rfl rfl)
theorem dX6_laysRow_42 : decode cX6_laysRow 42 = .ok (.getfield 99, 3) := dk_180 0 99 (dk_at dksX6_laysRow_1 18 rfl rfl)
theorem dX6_laysRow_45 : decode cX6_laysRow 45 = .ok (.iload_n 3, 1) := dk_29 (dk_at dksX6_laysRow_1 21 rfl rfl)
theorem dX6_laysRow_46 : decode cX6_laysRow 46 = .ok (.aload_n 0, 1) := dk_42 (dk_at dksX6_laysRow_1 22 rfl rfl)
theorem dX6_laysRow_47 : decode cX6_laysRow 47 = .ok (.getfield 99, 3) := dk_180 0 99 (dk_at dksX6_laysRow_2 0 rfl rfl)
theorem dX6_laysRow_50 : decode cX6_laysRow 50 = .ok (.iload_n 3, 1) := dk_29 (dk_at dksX6_laysRow_2 3 rfl rfl)
theorem dX6_laysRow_51 : decode cX6_laysRow 51 = .ok (.iconst 1, 1) := dk_4 (dk_at dksX6_laysRow_2 4 rfl rfl)
theorem dX6_laysRow_52 : decode cX6_laysRow 52 = .ok (.isub, 1) := dk_100 (dk_at dksX6_laysRow_2 5 rfl rfl)
theorem dX6_laysRow_53 : decode cX6_laysRow 53 = .ok (.iaload, 1) := dk_46 (dk_at dksX6_laysRow_2 6 rfl rfl)
theorem dX6_laysRow_54 : decode cX6_laysRow 54 = .ok (.iastore, 1) := dk_79 (dk_at dksX6_laysRow_2 7 rfl rfl)
theorem dX6_laysRow_55 : decode cX6_laysRow 55 = .ok (.iload_n 3, 1) := dk_29 (dk_at dksX6_laysRow_2 8 rfl rfl)
theorem dX6_laysRow_56 : decode cX6_laysRow 56 = .ok (.iconst 1, 1) := dk_4 (dk_at dksX6_laysRow_2 9 rfl rfl)
theorem dX6_laysRow_57 : decode cX6_laysRow 57 = .ok (.isub, 1) := dk_100 (dk_at dksX6_laysRow_2 10 rfl rfl)
theorem dX6_laysRow_58 : decode cX6_laysRow 58 = .ok (.istore_n 3, 1) := dk_62 (dk_at dksX6_laysRow_2 11 rfl rfl)
theorem dX6_laysRow_59 : decode cX6_laysRow 59 = .ok (.goto (-50), 3) := dk_167 255 206 (dk_at dksX6_laysRow_2 12 rfl rfl)
theorem dX6_laysRow_62 : decode cX6_laysRow 62 = .ok (.aload_n 0, 1) := dk_42 (dk_at dksX6_laysRow_2 15 rfl rfl)
theorem dX6_laysRow_63 : decode cX6_laysRow 63 = .ok (.getfield 99, 3) := dk_180 0 99 (dk_at dksX6_laysRow_2 16 rfl rfl)
theorem dX6_laysRow_66 : decode cX6_laysRow 66 = .ok (.iload_n 3, 1) := dk_29 (dk_at dksX6_laysRow_2 19 rfl rfl)
theorem dX6_laysRow_67 : decode cX6_laysRow 67 = .ok (.iload_n 2, 1) := dk_28 (dk_at dksX6_laysRow_2 20 rfl rfl)
theorem dX6_laysRow_68 : decode cX6_laysRow 68 = .ok (.iastore, 1) := dk_79 (dk_at dksX6_laysRow_2 21 rfl rfl)
theorem dX6_laysRow_69 : decode cX6_laysRow 69 = .ok (.iinc 2 1, 3) := dk_132 2 1 (dk_at dksX6_laysRow_3 0 rfl rfl)
theorem dX6_laysRow_72 : decode cX6_laysRow 72 = .ok (.goto (-70), 3) := dk_167 255 186 (dk_at dksX6_laysRow_3 3 rfl rfl)
theorem dX6_laysRow_75 : decode cX6_laysRow 75 = .ok (.return_, 1) := dk_177 (dk_at dksX6_laysRow_3 6 rfl rfl)
abbrev cX6_worthOf : ByteArray := prog_20_method_99_code
def yX6_worthOf : MethodName := ⟨RX6, "worthOf", "(II)I"⟩
def dkwX6_worthOf_3 : List UInt8 := [164, 0, 5, 3, 172, 132, 5, 1, 167, 255, 184, 21, 4, 172]
abbrev dktX6_worthOf_3 : List UInt8 := dkwX6_worthOf_3 ++ []
def dkwX6_worthOf_2 : List UInt8 := [42, 6, 21, 6, 104, 4, 96, 182, 1, 123, 96, 54, 4, 29, 42, 6, 21, 6, 104, 5, 96, 182, 1, 123]
abbrev dktX6_worthOf_2 : List UInt8 := dkwX6_worthOf_2 ++ dktX6_worthOf_3
def dkwX6_worthOf_1 : List UInt8 := [21, 6, 184, 1, 120, 154, 0, 6, 167, 0, 45, 29, 42, 6, 21, 6, 104, 182, 1, 123, 96, 62, 21, 4]
abbrev dktX6_worthOf_1 : List UInt8 := dkwX6_worthOf_1 ++ dktX6_worthOf_2
def dkwX6_worthOf_0 : List UInt8 := [3, 62, 3, 54, 4, 3, 54, 5, 21, 5, 28, 162, 0, 72, 42, 180, 0, 99, 21, 5, 46, 54, 6, 27]
abbrev dktX6_worthOf_0 : List UInt8 := dkwX6_worthOf_0 ++ dktX6_worthOf_1
theorem dksX6_worthOf_0 : cX6_worthOf.data.toList.drop 0 = dktX6_worthOf_0 := by decide +kernel
theorem dksX6_worthOf_1 : cX6_worthOf.data.toList.drop 24 = dktX6_worthOf_1 := dk_seg dksX6_worthOf_0 24 rfl rfl
theorem dksX6_worthOf_2 : cX6_worthOf.data.toList.drop 48 = dktX6_worthOf_2 := dk_seg dksX6_worthOf_1 24 rfl rfl
theorem dksX6_worthOf_3 : cX6_worthOf.data.toList.drop 72 = dktX6_worthOf_3 := dk_seg dksX6_worthOf_2 24 rfl rfl
theorem dX6_worthOf_0 : decode cX6_worthOf 0 = .ok (.iconst 0, 1) := dk_3 (dk_at dksX6_worthOf_0 0 rfl rfl)
theorem dX6_worthOf_1 : decode cX6_worthOf 1 = .ok (.istore_n 3, 1) := dk_62 (dk_at dksX6_worthOf_0 1 rfl rfl)
theorem dX6_worthOf_2 : decode cX6_worthOf 2 = .ok (.iconst 0, 1) := dk_3 (dk_at dksX6_worthOf_0 2 rfl rfl)
theorem dX6_worthOf_3 : decode cX6_worthOf 3 = .ok (.istore 4, 2) := dk_54 4 (dk_at dksX6_worthOf_0 3 rfl rfl)
theorem dX6_worthOf_5 : decode cX6_worthOf 5 = .ok (.iconst 0, 1) := dk_3 (dk_at dksX6_worthOf_0 5 rfl rfl)
theorem dX6_worthOf_6 : decode cX6_worthOf 6 = .ok (.istore 5, 2) := dk_54 5 (dk_at dksX6_worthOf_0 6 rfl rfl)
theorem dX6_worthOf_8 : decode cX6_worthOf 8 = .ok (.iload 5, 2) := dk_21 5 (dk_at dksX6_worthOf_0 8 rfl rfl)
theorem dX6_worthOf_10 : decode cX6_worthOf 10 = .ok (.iload_n 2, 1) := dk_28 (dk_at dksX6_worthOf_0 10 rfl rfl)
theorem dX6_worthOf_11 : decode cX6_worthOf 11 = .ok (.if_icmp .ge 72, 3) := dk_162 0 72 (dk_at dksX6_worthOf_0 11 rfl rfl)
theorem dX6_worthOf_14 : decode cX6_worthOf 14 = .ok (.aload_n 0, 1) := dk_42 (dk_at dksX6_worthOf_0 14 rfl rfl)
theorem dX6_worthOf_15 : decode cX6_worthOf 15 = .ok (.getfield 99, 3) := dk_180 0 99 (dk_at dksX6_worthOf_0 15 rfl rfl)
theorem dX6_worthOf_18 : decode cX6_worthOf 18 = .ok (.iload 5, 2) := dk_21 5 (dk_at dksX6_worthOf_0 18 rfl rfl)
theorem dX6_worthOf_20 : decode cX6_worthOf 20 = .ok (.iaload, 1) := dk_46 (dk_at dksX6_worthOf_0 20 rfl rfl)
theorem dX6_worthOf_21 : decode cX6_worthOf 21 = .ok (.istore 6, 2) := dk_54 6 (dk_at dksX6_worthOf_0 21 rfl rfl)
theorem dX6_worthOf_23 : decode cX6_worthOf 23 = .ok (.iload_n 1, 1) := dk_27 (dk_at dksX6_worthOf_0 23 rfl rfl)
theorem dX6_worthOf_24 : decode cX6_worthOf 24 = .ok (.iload 6, 2) := dk_21 6 (dk_at dksX6_worthOf_1 0 rfl rfl)
theorem dX6_worthOf_26 : decode cX6_worthOf 26 = .ok (.invokestatic 376, 3) := dk_184 1 120 (dk_at dksX6_worthOf_1 2 rfl rfl)
theorem dX6_worthOf_29 : decode cX6_worthOf 29 = .ok (.ifCond .ne 6, 3) := dk_154 0 6 (dk_at dksX6_worthOf_1 5 rfl rfl)
theorem dX6_worthOf_32 : decode cX6_worthOf 32 = .ok (.goto 45, 3) := dk_167 0 45 (dk_at dksX6_worthOf_1 8 rfl rfl)
theorem dX6_worthOf_35 : decode cX6_worthOf 35 = .ok (.iload_n 3, 1) := dk_29 (dk_at dksX6_worthOf_1 11 rfl rfl)
theorem dX6_worthOf_36 : decode cX6_worthOf 36 = .ok (.aload_n 0, 1) := dk_42 (dk_at dksX6_worthOf_1 12 rfl rfl)
theorem dX6_worthOf_37 : decode cX6_worthOf 37 = .ok (.iconst 3, 1) := dk_6 (dk_at dksX6_worthOf_1 13 rfl rfl)
theorem dX6_worthOf_38 : decode cX6_worthOf 38 = .ok (.iload 6, 2) := dk_21 6 (dk_at dksX6_worthOf_1 14 rfl rfl)
theorem dX6_worthOf_40 : decode cX6_worthOf 40 = .ok (.imul, 1) := dk_104 (dk_at dksX6_worthOf_1 16 rfl rfl)
theorem dX6_worthOf_41 : decode cX6_worthOf 41 = .ok (.invokevirtual 379, 3) := dk_182 1 123 (dk_at dksX6_worthOf_1 17 rfl rfl)
theorem dX6_worthOf_44 : decode cX6_worthOf 44 = .ok (.iadd, 1) := dk_96 (dk_at dksX6_worthOf_1 20 rfl rfl)
theorem dX6_worthOf_45 : decode cX6_worthOf 45 = .ok (.istore_n 3, 1) := dk_62 (dk_at dksX6_worthOf_1 21 rfl rfl)
theorem dX6_worthOf_46 : decode cX6_worthOf 46 = .ok (.iload 4, 2) := dk_21 4 (dk_at dksX6_worthOf_1 22 rfl rfl)
theorem dX6_worthOf_48 : decode cX6_worthOf 48 = .ok (.aload_n 0, 1) := dk_42 (dk_at dksX6_worthOf_2 0 rfl rfl)
theorem dX6_worthOf_49 : decode cX6_worthOf 49 = .ok (.iconst 3, 1) := dk_6 (dk_at dksX6_worthOf_2 1 rfl rfl)
theorem dX6_worthOf_50 : decode cX6_worthOf 50 = .ok (.iload 6, 2) := dk_21 6 (dk_at dksX6_worthOf_2 2 rfl rfl)
theorem dX6_worthOf_52 : decode cX6_worthOf 52 = .ok (.imul, 1) := dk_104 (dk_at dksX6_worthOf_2 4 rfl rfl)
theorem dX6_worthOf_53 : decode cX6_worthOf 53 = .ok (.iconst 1, 1) := dk_4 (dk_at dksX6_worthOf_2 5 rfl rfl)
theorem dX6_worthOf_54 : decode cX6_worthOf 54 = .ok (.iadd, 1) := dk_96 (dk_at dksX6_worthOf_2 6 rfl rfl)
theorem dX6_worthOf_55 : decode cX6_worthOf 55 = .ok (.invokevirtual 379, 3) := dk_182 1 123 (dk_at dksX6_worthOf_2 7 rfl rfl)
theorem dX6_worthOf_58 : decode cX6_worthOf 58 = .ok (.iadd, 1) := dk_96 (dk_at dksX6_worthOf_2 10 rfl rfl)
theorem dX6_worthOf_59 : decode cX6_worthOf 59 = .ok (.istore 4, 2) := dk_54 4 (dk_at dksX6_worthOf_2 11 rfl rfl)
theorem dX6_worthOf_61 : decode cX6_worthOf 61 = .ok (.iload_n 3, 1) := dk_29 (dk_at dksX6_worthOf_2 13 rfl rfl)
theorem dX6_worthOf_62 : decode cX6_worthOf 62 = .ok (.aload_n 0, 1) := dk_42 (dk_at dksX6_worthOf_2 14 rfl rfl)
theorem dX6_worthOf_63 : decode cX6_worthOf 63 = .ok (.iconst 3, 1) := dk_6 (dk_at dksX6_worthOf_2 15 rfl rfl)
theorem dX6_worthOf_64 : decode cX6_worthOf 64 = .ok (.iload 6, 2) := dk_21 6 (dk_at dksX6_worthOf_2 16 rfl rfl)
theorem dX6_worthOf_66 : decode cX6_worthOf 66 = .ok (.imul, 1) := dk_104 (dk_at dksX6_worthOf_2 18 rfl rfl)
theorem dX6_worthOf_67 : decode cX6_worthOf 67 = .ok (.iconst 2, 1) := dk_5 (dk_at dksX6_worthOf_2 19 rfl rfl)
theorem dX6_worthOf_68 : decode cX6_worthOf 68 = .ok (.iadd, 1) := dk_96 (dk_at dksX6_worthOf_2 20 rfl rfl)
theorem dX6_worthOf_69 : decode cX6_worthOf 69 = .ok (.invokevirtual 379, 3) := dk_182 1 123 (dk_at dksX6_worthOf_2 21 rfl rfl)
theorem dX6_worthOf_72 : decode cX6_worthOf 72 = .ok (.if_icmp .le 5, 3) := dk_164 0 5 (dk_at dksX6_worthOf_3 0 rfl rfl)
theorem dX6_worthOf_75 : decode cX6_worthOf 75 = .ok (.iconst 0, 1) := dk_3 (dk_at dksX6_worthOf_3 3 rfl rfl)
theorem dX6_worthOf_76 : decode cX6_worthOf 76 = .ok (.ireturn, 1) := dk_172 (dk_at dksX6_worthOf_3 4 rfl rfl)
theorem dX6_worthOf_77 : decode cX6_worthOf 77 = .ok (.iinc 5 1, 3) := dk_132 5 1 (dk_at dksX6_worthOf_3 5 rfl rfl)
theorem dX6_worthOf_80 : decode cX6_worthOf 80 = .ok (.goto (-72), 3) := dk_167 255 184 (dk_at dksX6_worthOf_3 8 rfl rfl)
theorem dX6_worthOf_83 : decode cX6_worthOf 83 = .ok (.iload 4, 2) := dk_21 4 (dk_at dksX6_worthOf_3 11 rfl rfl)
theorem dX6_worthOf_85 : decode cX6_worthOf 85 = .ok (.ireturn, 1) := dk_172 (dk_at dksX6_worthOf_3 13 rfl rfl)
abbrev cX6_premium : ByteArray := prog_20_method_101_code
def yX6_premium : MethodName := ⟨RX6, "premium", "(II)I"⟩
def dkwX6_premium_5 : List UInt8 := [167, 0, 5, 21, 4, 172]
abbrev dktX6_premium_5 : List UInt8 := dkwX6_premium_5 ++ []
def dkwX6_premium_4 : List UInt8 := [21, 5, 104, 4, 96, 182, 1, 123, 104, 54, 4, 132, 5, 1, 167, 255, 192, 28, 154, 0, 7, 29]
abbrev dktX6_premium_4 : List UInt8 := dkwX6_premium_4 ++ dktX6_premium_5
def dkwX6_premium_3 : List UInt8 := [21, 5, 104, 182, 1, 123, 42, 5, 21, 5, 104, 4, 96, 182, 1, 123, 104, 96, 62, 21, 4, 42, 5]
abbrev dktX6_premium_3 : List UInt8 := dkwX6_premium_3 ++ dktX6_premium_4
def dkwX6_premium_2 : List UInt8 := [162, 0, 64, 42, 5, 21, 5, 104, 4, 96, 182, 1, 123, 16, 10, 164, 0, 6, 16, 254, 172, 29, 42, 5]
abbrev dktX6_premium_2 : List UInt8 := dkwX6_premium_2 ++ dktX6_premium_3
def dkwX6_premium_1 : List UInt8 := [180, 0, 117, 164, 0, 5, 2, 172, 42, 3, 181, 0, 117, 3, 62, 4, 54, 4, 3, 54, 5, 21, 5, 27]
abbrev dktX6_premium_1 : List UInt8 := dkwX6_premium_1 ++ dktX6_premium_2
def dkwX6_premium_0 : List UInt8 := [27, 4, 16, 8, 184, 0, 102, 153, 0, 22, 28, 3, 4, 184, 0, 102, 153, 0, 13, 5, 27, 104, 42]
abbrev dktX6_premium_0 : List UInt8 := dkwX6_premium_0 ++ dktX6_premium_1
theorem dksX6_premium_0 : cX6_premium.data.toList.drop 0 = dktX6_premium_0 := by decide +kernel
theorem dksX6_premium_1 : cX6_premium.data.toList.drop 23 = dktX6_premium_1 := dk_seg dksX6_premium_0 23 rfl rfl
theorem dksX6_premium_2 : cX6_premium.data.toList.drop 47 = dktX6_premium_2 := dk_seg dksX6_premium_1 24 rfl rfl
theorem dksX6_premium_3 : cX6_premium.data.toList.drop 71 = dktX6_premium_3 := dk_seg dksX6_premium_2 24 rfl rfl
theorem dksX6_premium_4 : cX6_premium.data.toList.drop 94 = dktX6_premium_4 := dk_seg dksX6_premium_3 23 rfl rfl
theorem dksX6_premium_5 : cX6_premium.data.toList.drop 116 = dktX6_premium_5 := dk_seg dksX6_premium_4 22 rfl rfl
theorem dX6_premium_0 : decode cX6_premium 0 = .ok (.iload_n 1, 1) := dk_27 (dk_at dksX6_premium_0 0 rfl rfl)
theorem dX6_premium_1 : decode cX6_premium 1 = .ok (.iconst 1, 1) := dk_4 (dk_at dksX6_premium_0 1 rfl rfl)
theorem dX6_premium_2 : decode cX6_premium 2 = .ok (.bipush 8, 2) := dk_16 8 (dk_at dksX6_premium_0 2 rfl rfl)
theorem dX6_premium_4 : decode cX6_premium 4 = .ok (.invokestatic 102, 3) := dk_184 0 102 (dk_at dksX6_premium_0 4 rfl rfl)
theorem dX6_premium_7 : decode cX6_premium 7 = .ok (.ifCond .eq 22, 3) := dk_153 0 22 (dk_at dksX6_premium_0 7 rfl rfl)
theorem dX6_premium_10 : decode cX6_premium 10 = .ok (.iload_n 2, 1) := dk_28 (dk_at dksX6_premium_0 10 rfl rfl)
theorem dX6_premium_11 : decode cX6_premium 11 = .ok (.iconst 0, 1) := dk_3 (dk_at dksX6_premium_0 11 rfl rfl)
theorem dX6_premium_12 : decode cX6_premium 12 = .ok (.iconst 1, 1) := dk_4 (dk_at dksX6_premium_0 12 rfl rfl)
theorem dX6_premium_13 : decode cX6_premium 13 = .ok (.invokestatic 102, 3) := dk_184 0 102 (dk_at dksX6_premium_0 13 rfl rfl)
theorem dX6_premium_16 : decode cX6_premium 16 = .ok (.ifCond .eq 13, 3) := dk_153 0 13 (dk_at dksX6_premium_0 16 rfl rfl)
theorem dX6_premium_19 : decode cX6_premium 19 = .ok (.iconst 2, 1) := dk_5 (dk_at dksX6_premium_0 19 rfl rfl)
theorem dX6_premium_20 : decode cX6_premium 20 = .ok (.iload_n 1, 1) := dk_27 (dk_at dksX6_premium_0 20 rfl rfl)
theorem dX6_premium_21 : decode cX6_premium 21 = .ok (.imul, 1) := dk_104 (dk_at dksX6_premium_0 21 rfl rfl)
theorem dX6_premium_22 : decode cX6_premium 22 = .ok (.aload_n 0, 1) := dk_42 (dk_at dksX6_premium_0 22 rfl rfl)
theorem dX6_premium_23 : decode cX6_premium 23 = .ok (.getfield 117, 3) := dk_180 0 117 (dk_at dksX6_premium_1 0 rfl rfl)
theorem dX6_premium_26 : decode cX6_premium 26 = .ok (.if_icmp .le 5, 3) := dk_164 0 5 (dk_at dksX6_premium_1 3 rfl rfl)
theorem dX6_premium_29 : decode cX6_premium 29 = .ok (.iconst (-1), 1) := dk_2 (dk_at dksX6_premium_1 6 rfl rfl)
theorem dX6_premium_30 : decode cX6_premium 30 = .ok (.ireturn, 1) := dk_172 (dk_at dksX6_premium_1 7 rfl rfl)
theorem dX6_premium_31 : decode cX6_premium 31 = .ok (.aload_n 0, 1) := dk_42 (dk_at dksX6_premium_1 8 rfl rfl)
theorem dX6_premium_32 : decode cX6_premium 32 = .ok (.iconst 0, 1) := dk_3 (dk_at dksX6_premium_1 9 rfl rfl)
theorem dX6_premium_33 : decode cX6_premium 33 = .ok (.putfield 117, 3) := dk_181 0 117 (dk_at dksX6_premium_1 10 rfl rfl)
theorem dX6_premium_36 : decode cX6_premium 36 = .ok (.iconst 0, 1) := dk_3 (dk_at dksX6_premium_1 13 rfl rfl)
theorem dX6_premium_37 : decode cX6_premium 37 = .ok (.istore_n 3, 1) := dk_62 (dk_at dksX6_premium_1 14 rfl rfl)
theorem dX6_premium_38 : decode cX6_premium 38 = .ok (.iconst 1, 1) := dk_4 (dk_at dksX6_premium_1 15 rfl rfl)
theorem dX6_premium_39 : decode cX6_premium 39 = .ok (.istore 4, 2) := dk_54 4 (dk_at dksX6_premium_1 16 rfl rfl)
theorem dX6_premium_41 : decode cX6_premium 41 = .ok (.iconst 0, 1) := dk_3 (dk_at dksX6_premium_1 18 rfl rfl)
theorem dX6_premium_42 : decode cX6_premium 42 = .ok (.istore 5, 2) := dk_54 5 (dk_at dksX6_premium_1 19 rfl rfl)
theorem dX6_premium_44 : decode cX6_premium 44 = .ok (.iload 5, 2) := dk_21 5 (dk_at dksX6_premium_1 21 rfl rfl)
theorem dX6_premium_46 : decode cX6_premium 46 = .ok (.iload_n 1, 1) := dk_27 (dk_at dksX6_premium_1 23 rfl rfl)
theorem dX6_premium_47 : decode cX6_premium 47 = .ok (.if_icmp .ge 64, 3) := dk_162 0 64 (dk_at dksX6_premium_2 0 rfl rfl)
theorem dX6_premium_50 : decode cX6_premium 50 = .ok (.aload_n 0, 1) := dk_42 (dk_at dksX6_premium_2 3 rfl rfl)
theorem dX6_premium_51 : decode cX6_premium 51 = .ok (.iconst 2, 1) := dk_5 (dk_at dksX6_premium_2 4 rfl rfl)
theorem dX6_premium_52 : decode cX6_premium 52 = .ok (.iload 5, 2) := dk_21 5 (dk_at dksX6_premium_2 5 rfl rfl)
theorem dX6_premium_54 : decode cX6_premium 54 = .ok (.imul, 1) := dk_104 (dk_at dksX6_premium_2 7 rfl rfl)
theorem dX6_premium_55 : decode cX6_premium 55 = .ok (.iconst 1, 1) := dk_4 (dk_at dksX6_premium_2 8 rfl rfl)
theorem dX6_premium_56 : decode cX6_premium 56 = .ok (.iadd, 1) := dk_96 (dk_at dksX6_premium_2 9 rfl rfl)
theorem dX6_premium_57 : decode cX6_premium 57 = .ok (.invokevirtual 379, 3) := dk_182 1 123 (dk_at dksX6_premium_2 10 rfl rfl)
theorem dX6_premium_60 : decode cX6_premium 60 = .ok (.bipush 10, 2) := dk_16 10 (dk_at dksX6_premium_2 13 rfl rfl)
theorem dX6_premium_62 : decode cX6_premium 62 = .ok (.if_icmp .le 6, 3) := dk_164 0 6 (dk_at dksX6_premium_2 15 rfl rfl)
theorem dX6_premium_65 : decode cX6_premium 65 = .ok (.bipush (-2), 2) := dk_16 254 (dk_at dksX6_premium_2 18 rfl rfl)
theorem dX6_premium_67 : decode cX6_premium 67 = .ok (.ireturn, 1) := dk_172 (dk_at dksX6_premium_2 20 rfl rfl)
theorem dX6_premium_68 : decode cX6_premium 68 = .ok (.iload_n 3, 1) := dk_29 (dk_at dksX6_premium_2 21 rfl rfl)
theorem dX6_premium_69 : decode cX6_premium 69 = .ok (.aload_n 0, 1) := dk_42 (dk_at dksX6_premium_2 22 rfl rfl)
theorem dX6_premium_70 : decode cX6_premium 70 = .ok (.iconst 2, 1) := dk_5 (dk_at dksX6_premium_2 23 rfl rfl)
theorem dX6_premium_71 : decode cX6_premium 71 = .ok (.iload 5, 2) := dk_21 5 (dk_at dksX6_premium_3 0 rfl rfl)
theorem dX6_premium_73 : decode cX6_premium 73 = .ok (.imul, 1) := dk_104 (dk_at dksX6_premium_3 2 rfl rfl)
theorem dX6_premium_74 : decode cX6_premium 74 = .ok (.invokevirtual 379, 3) := dk_182 1 123 (dk_at dksX6_premium_3 3 rfl rfl)
theorem dX6_premium_77 : decode cX6_premium 77 = .ok (.aload_n 0, 1) := dk_42 (dk_at dksX6_premium_3 6 rfl rfl)
theorem dX6_premium_78 : decode cX6_premium 78 = .ok (.iconst 2, 1) := dk_5 (dk_at dksX6_premium_3 7 rfl rfl)
theorem dX6_premium_79 : decode cX6_premium 79 = .ok (.iload 5, 2) := dk_21 5 (dk_at dksX6_premium_3 8 rfl rfl)
theorem dX6_premium_81 : decode cX6_premium 81 = .ok (.imul, 1) := dk_104 (dk_at dksX6_premium_3 10 rfl rfl)
theorem dX6_premium_82 : decode cX6_premium 82 = .ok (.iconst 1, 1) := dk_4 (dk_at dksX6_premium_3 11 rfl rfl)
theorem dX6_premium_83 : decode cX6_premium 83 = .ok (.iadd, 1) := dk_96 (dk_at dksX6_premium_3 12 rfl rfl)
theorem dX6_premium_84 : decode cX6_premium 84 = .ok (.invokevirtual 379, 3) := dk_182 1 123 (dk_at dksX6_premium_3 13 rfl rfl)
theorem dX6_premium_87 : decode cX6_premium 87 = .ok (.imul, 1) := dk_104 (dk_at dksX6_premium_3 16 rfl rfl)
theorem dX6_premium_88 : decode cX6_premium 88 = .ok (.iadd, 1) := dk_96 (dk_at dksX6_premium_3 17 rfl rfl)
theorem dX6_premium_89 : decode cX6_premium 89 = .ok (.istore_n 3, 1) := dk_62 (dk_at dksX6_premium_3 18 rfl rfl)
theorem dX6_premium_90 : decode cX6_premium 90 = .ok (.iload 4, 2) := dk_21 4 (dk_at dksX6_premium_3 19 rfl rfl)
theorem dX6_premium_92 : decode cX6_premium 92 = .ok (.aload_n 0, 1) := dk_42 (dk_at dksX6_premium_3 21 rfl rfl)
theorem dX6_premium_93 : decode cX6_premium 93 = .ok (.iconst 2, 1) := dk_5 (dk_at dksX6_premium_3 22 rfl rfl)
theorem dX6_premium_94 : decode cX6_premium 94 = .ok (.iload 5, 2) := dk_21 5 (dk_at dksX6_premium_4 0 rfl rfl)
theorem dX6_premium_96 : decode cX6_premium 96 = .ok (.imul, 1) := dk_104 (dk_at dksX6_premium_4 2 rfl rfl)
theorem dX6_premium_97 : decode cX6_premium 97 = .ok (.iconst 1, 1) := dk_4 (dk_at dksX6_premium_4 3 rfl rfl)
theorem dX6_premium_98 : decode cX6_premium 98 = .ok (.iadd, 1) := dk_96 (dk_at dksX6_premium_4 4 rfl rfl)
theorem dX6_premium_99 : decode cX6_premium 99 = .ok (.invokevirtual 379, 3) := dk_182 1 123 (dk_at dksX6_premium_4 5 rfl rfl)
theorem dX6_premium_102 : decode cX6_premium 102 = .ok (.imul, 1) := dk_104 (dk_at dksX6_premium_4 8 rfl rfl)
theorem dX6_premium_103 : decode cX6_premium 103 = .ok (.istore 4, 2) := dk_54 4 (dk_at dksX6_premium_4 9 rfl rfl)
theorem dX6_premium_105 : decode cX6_premium 105 = .ok (.iinc 5 1, 3) := dk_132 5 1 (dk_at dksX6_premium_4 11 rfl rfl)
theorem dX6_premium_108 : decode cX6_premium 108 = .ok (.goto (-64), 3) := dk_167 255 192 (dk_at dksX6_premium_4 14 rfl rfl)
theorem dX6_premium_111 : decode cX6_premium 111 = .ok (.iload_n 2, 1) := dk_28 (dk_at dksX6_premium_4 17 rfl rfl)
theorem dX6_premium_112 : decode cX6_premium 112 = .ok (.ifCond .ne 7, 3) := dk_154 0 7 (dk_at dksX6_premium_4 18 rfl rfl)
theorem dX6_premium_115 : decode cX6_premium 115 = .ok (.iload_n 3, 1) := dk_29 (dk_at dksX6_premium_4 21 rfl rfl)
theorem dX6_premium_116 : decode cX6_premium 116 = .ok (.goto 5, 3) := dk_167 0 5 (dk_at dksX6_premium_5 0 rfl rfl)
theorem dX6_premium_119 : decode cX6_premium 119 = .ok (.iload 4, 2) := dk_21 4 (dk_at dksX6_premium_5 3 rfl rfl)
theorem dX6_premium_121 : decode cX6_premium 121 = .ok (.ireturn, 1) := dk_172 (dk_at dksX6_premium_5 5 rfl rfl)
abbrev cX6_seed : ByteArray := prog_20_method_102_code
def yX6_seed : MethodName := ⟨RX6, "seed", "(I)Z"⟩
def dkwX6_seed_0 : List UInt8 := [27, 3, 19, 1, 143, 184, 0, 102, 154, 0, 5, 3, 172, 42, 180, 0, 7, 17, 1, 58, 27, 79, 4, 172]
abbrev dktX6_seed_0 : List UInt8 := dkwX6_seed_0 ++ []
theorem dksX6_seed_0 : cX6_seed.data.toList.drop 0 = dktX6_seed_0 := by decide +kernel
theorem dX6_seed_0 : decode cX6_seed 0 = .ok (.iload_n 1, 1) := dk_27 (dk_at dksX6_seed_0 0 rfl rfl)
theorem dX6_seed_1 : decode cX6_seed 1 = .ok (.iconst 0, 1) := dk_3 (dk_at dksX6_seed_0 1 rfl rfl)
theorem dX6_seed_2 : decode cX6_seed 2 = .ok (.ldc_w 399, 3) := dk_19 1 143 (dk_at dksX6_seed_0 2 rfl rfl)
theorem dX6_seed_5 : decode cX6_seed 5 = .ok (.invokestatic 102, 3) := dk_184 0 102 (dk_at dksX6_seed_0 5 rfl rfl)
theorem dX6_seed_8 : decode cX6_seed 8 = .ok (.ifCond .ne 5, 3) := dk_154 0 5 (dk_at dksX6_seed_0 8 rfl rfl)
theorem dX6_seed_11 : decode cX6_seed 11 = .ok (.iconst 0, 1) := dk_3 (dk_at dksX6_seed_0 11 rfl rfl)
theorem dX6_seed_12 : decode cX6_seed 12 = .ok (.ireturn, 1) := dk_172 (dk_at dksX6_seed_0 12 rfl rfl)
theorem dX6_seed_13 : decode cX6_seed 13 = .ok (.aload_n 0, 1) := dk_42 (dk_at dksX6_seed_0 13 rfl rfl)
theorem dX6_seed_14 : decode cX6_seed 14 = .ok (.getfield 7, 3) := dk_180 0 7 (dk_at dksX6_seed_0 14 rfl rfl)
theorem dX6_seed_17 : decode cX6_seed 17 = .ok (.sipush 314, 3) := dk_17 1 58 (dk_at dksX6_seed_0 17 rfl rfl)
theorem dX6_seed_20 : decode cX6_seed 20 = .ok (.iload_n 1, 1) := dk_27 (dk_at dksX6_seed_0 20 rfl rfl)
theorem dX6_seed_21 : decode cX6_seed 21 = .ok (.iastore, 1) := dk_79 (dk_at dksX6_seed_0 21 rfl rfl)
theorem dX6_seed_22 : decode cX6_seed 22 = .ok (.iconst 1, 1) := dk_4 (dk_at dksX6_seed_0 22 rfl rfl)
theorem dX6_seed_23 : decode cX6_seed 23 = .ok (.ireturn, 1) := dk_172 (dk_at dksX6_seed_0 23 rfl rfl)
abbrev cX6_keep : ByteArray := prog_20_method_103_code
def yX6_keep : MethodName := ⟨RX6, "keep", "()I"⟩
def dkwX6_keep_1 : List UInt8 := [172]
abbrev dktX6_keep_1 : List UInt8 := dkwX6_keep_1 ++ []
def dkwX6_keep_0 : List UInt8 := [42, 4, 181, 1, 144, 42, 180, 0, 7, 42, 180, 0, 16, 184, 1, 15, 42, 180, 0, 7, 17, 1, 57, 46]
abbrev dktX6_keep_0 : List UInt8 := dkwX6_keep_0 ++ dktX6_keep_1
theorem dksX6_keep_0 : cX6_keep.data.toList.drop 0 = dktX6_keep_0 := by decide +kernel
theorem dksX6_keep_1 : cX6_keep.data.toList.drop 24 = dktX6_keep_1 := dk_seg dksX6_keep_0 24 rfl rfl
theorem dX6_keep_0 : decode cX6_keep 0 = .ok (.aload_n 0, 1) := dk_42 (dk_at dksX6_keep_0 0 rfl rfl)
theorem dX6_keep_1 : decode cX6_keep 1 = .ok (.iconst 1, 1) := dk_4 (dk_at dksX6_keep_0 1 rfl rfl)
theorem dX6_keep_2 : decode cX6_keep 2 = .ok (.putfield 400, 3) := dk_181 1 144 (dk_at dksX6_keep_0 2 rfl rfl)
theorem dX6_keep_5 : decode cX6_keep 5 = .ok (.aload_n 0, 1) := dk_42 (dk_at dksX6_keep_0 5 rfl rfl)
theorem dX6_keep_6 : decode cX6_keep 6 = .ok (.getfield 7, 3) := dk_180 0 7 (dk_at dksX6_keep_0 6 rfl rfl)
theorem dX6_keep_9 : decode cX6_keep 9 = .ok (.aload_n 0, 1) := dk_42 (dk_at dksX6_keep_0 9 rfl rfl)
theorem dX6_keep_10 : decode cX6_keep 10 = .ok (.getfield 16, 3) := dk_180 0 16 (dk_at dksX6_keep_0 10 rfl rfl)
theorem dX6_keep_13 : decode cX6_keep 13 = .ok (.invokestatic 271, 3) := dk_184 1 15 (dk_at dksX6_keep_0 13 rfl rfl)
theorem dX6_keep_16 : decode cX6_keep 16 = .ok (.aload_n 0, 1) := dk_42 (dk_at dksX6_keep_0 16 rfl rfl)
theorem dX6_keep_17 : decode cX6_keep 17 = .ok (.getfield 7, 3) := dk_180 0 7 (dk_at dksX6_keep_0 17 rfl rfl)
theorem dX6_keep_20 : decode cX6_keep 20 = .ok (.sipush 313, 3) := dk_17 1 57 (dk_at dksX6_keep_0 20 rfl rfl)
theorem dX6_keep_23 : decode cX6_keep 23 = .ok (.iaload, 1) := dk_46 (dk_at dksX6_keep_0 23 rfl rfl)
theorem dX6_keep_24 : decode cX6_keep 24 = .ok (.ireturn, 1) := dk_172 (dk_at dksX6_keep_1 0 rfl rfl)
abbrev cX6_undo : ByteArray := prog_20_method_104_code
def yX6_undo : MethodName := ⟨RX6, "undo", "()Z"⟩
def dkwX6_undo_2 : List UInt8 := [4, 172]
abbrev dktX6_undo_2 : List UInt8 := dkwX6_undo_2 ++ []
def dkwX6_undo_1 : List UInt8 := [16, 96, 162, 0, 22, 42, 27, 182, 0, 241, 154, 0, 8, 42, 27, 182, 0, 238, 132, 1, 1, 167, 255, 234]
abbrev dktX6_undo_1 : List UInt8 := dkwX6_undo_1 ++ dktX6_undo_2
def dkwX6_undo_0 : List UInt8 := [42, 180, 1, 144, 154, 0, 5, 3, 172, 42, 180, 0, 16, 42, 180, 0, 7, 184, 1, 15, 3, 60, 27]
abbrev dktX6_undo_0 : List UInt8 := dkwX6_undo_0 ++ dktX6_undo_1
theorem dksX6_undo_0 : cX6_undo.data.toList.drop 0 = dktX6_undo_0 := by decide +kernel
theorem dksX6_undo_1 : cX6_undo.data.toList.drop 23 = dktX6_undo_1 := dk_seg dksX6_undo_0 23 rfl rfl
theorem dksX6_undo_2 : cX6_undo.data.toList.drop 47 = dktX6_undo_2 := dk_seg dksX6_undo_1 24 rfl rfl
theorem dX6_undo_0 : decode cX6_undo 0 = .ok (.aload_n 0, 1) := dk_42 (dk_at dksX6_undo_0 0 rfl rfl)
theorem dX6_undo_1 : decode cX6_undo 1 = .ok (.getfield 400, 3) := dk_180 1 144 (dk_at dksX6_undo_0 1 rfl rfl)
theorem dX6_undo_4 : decode cX6_undo 4 = .ok (.ifCond .ne 5, 3) := dk_154 0 5 (dk_at dksX6_undo_0 4 rfl rfl)
theorem dX6_undo_7 : decode cX6_undo 7 = .ok (.iconst 0, 1) := dk_3 (dk_at dksX6_undo_0 7 rfl rfl)
theorem dX6_undo_8 : decode cX6_undo 8 = .ok (.ireturn, 1) := dk_172 (dk_at dksX6_undo_0 8 rfl rfl)
theorem dX6_undo_9 : decode cX6_undo 9 = .ok (.aload_n 0, 1) := dk_42 (dk_at dksX6_undo_0 9 rfl rfl)
theorem dX6_undo_10 : decode cX6_undo 10 = .ok (.getfield 16, 3) := dk_180 0 16 (dk_at dksX6_undo_0 10 rfl rfl)
theorem dX6_undo_13 : decode cX6_undo 13 = .ok (.aload_n 0, 1) := dk_42 (dk_at dksX6_undo_0 13 rfl rfl)
theorem dX6_undo_14 : decode cX6_undo 14 = .ok (.getfield 7, 3) := dk_180 0 7 (dk_at dksX6_undo_0 14 rfl rfl)
theorem dX6_undo_17 : decode cX6_undo 17 = .ok (.invokestatic 271, 3) := dk_184 1 15 (dk_at dksX6_undo_0 17 rfl rfl)
theorem dX6_undo_20 : decode cX6_undo 20 = .ok (.iconst 0, 1) := dk_3 (dk_at dksX6_undo_0 20 rfl rfl)
theorem dX6_undo_21 : decode cX6_undo 21 = .ok (.istore_n 1, 1) := dk_60 (dk_at dksX6_undo_0 21 rfl rfl)
theorem dX6_undo_22 : decode cX6_undo 22 = .ok (.iload_n 1, 1) := dk_27 (dk_at dksX6_undo_0 22 rfl rfl)
theorem dX6_undo_23 : decode cX6_undo 23 = .ok (.bipush 96, 2) := dk_16 96 (dk_at dksX6_undo_1 0 rfl rfl)
theorem dX6_undo_25 : decode cX6_undo 25 = .ok (.if_icmp .ge 22, 3) := dk_162 0 22 (dk_at dksX6_undo_1 2 rfl rfl)
theorem dX6_undo_28 : decode cX6_undo 28 = .ok (.aload_n 0, 1) := dk_42 (dk_at dksX6_undo_1 5 rfl rfl)
theorem dX6_undo_29 : decode cX6_undo 29 = .ok (.iload_n 1, 1) := dk_27 (dk_at dksX6_undo_1 6 rfl rfl)
theorem dX6_undo_30 : decode cX6_undo 30 = .ok (.invokevirtual 241, 3) := dk_182 0 241 (dk_at dksX6_undo_1 7 rfl rfl)
theorem dX6_undo_33 : decode cX6_undo 33 = .ok (.ifCond .ne 8, 3) := dk_154 0 8 (dk_at dksX6_undo_1 10 rfl rfl)
theorem dX6_undo_36 : decode cX6_undo 36 = .ok (.aload_n 0, 1) := dk_42 (dk_at dksX6_undo_1 13 rfl rfl)
theorem dX6_undo_37 : decode cX6_undo 37 = .ok (.iload_n 1, 1) := dk_27 (dk_at dksX6_undo_1 14 rfl rfl)
theorem dX6_undo_38 : decode cX6_undo 38 = .ok (.invokevirtual 238, 3) := dk_182 0 238 (dk_at dksX6_undo_1 15 rfl rfl)
theorem dX6_undo_41 : decode cX6_undo 41 = .ok (.iinc 1 1, 3) := dk_132 1 1 (dk_at dksX6_undo_1 18 rfl rfl)
theorem dX6_undo_44 : decode cX6_undo 44 = .ok (.goto (-22), 3) := dk_167 255 234 (dk_at dksX6_undo_1 21 rfl rfl)
theorem dX6_undo_47 : decode cX6_undo 47 = .ok (.iconst 1, 1) := dk_4 (dk_at dksX6_undo_2 0 rfl rfl)
theorem dX6_undo_48 : decode cX6_undo 48 = .ok (.ireturn, 1) := dk_172 (dk_at dksX6_undo_2 1 rfl rfl)
abbrev cX6_check : ByteArray := prog_20_method_105_code
def yX6_check : MethodName := ⟨RX6, "check", "(I)I"⟩
def dkwX6_check_3 : List UInt8 := [17, 1, 0, 112, 167, 0, 4, 3, 159, 0, 5, 28, 172, 132, 2, 1, 167, 255, 199, 2, 172]
abbrev dktX6_check_3 : List UInt8 := dkwX6_check_3 ++ []
def dkwX6_check_2 : List UInt8 := [180, 0, 7, 17, 1, 32, 28, 96, 46, 154, 0, 20, 42, 180, 0, 7, 17, 0, 240, 28, 96, 46]
abbrev dktX6_check_2 : List UInt8 := dkwX6_check_2 ++ dktX6_check_3
def dkwX6_check_1 : List UInt8 := [181, 0, 117, 3, 61, 28, 27, 162, 0, 58, 42, 28, 182, 1, 123, 42, 28, 182, 0, 114, 153, 0, 33, 42]
abbrev dktX6_check_1 : List UInt8 := dkwX6_check_1 ++ dktX6_check_2
def dkwX6_check_0 : List UInt8 := [27, 3, 16, 24, 184, 0, 102, 153, 0, 11, 27, 42, 180, 0, 117, 164, 0, 6, 16, 254, 172, 42, 3]
abbrev dktX6_check_0 : List UInt8 := dkwX6_check_0 ++ dktX6_check_1
theorem dksX6_check_0 : cX6_check.data.toList.drop 0 = dktX6_check_0 := by decide +kernel
theorem dksX6_check_1 : cX6_check.data.toList.drop 23 = dktX6_check_1 := dk_seg dksX6_check_0 23 rfl rfl
theorem dksX6_check_2 : cX6_check.data.toList.drop 47 = dktX6_check_2 := dk_seg dksX6_check_1 24 rfl rfl
theorem dksX6_check_3 : cX6_check.data.toList.drop 69 = dktX6_check_3 := dk_seg dksX6_check_2 22 rfl rfl
theorem dX6_check_0 : decode cX6_check 0 = .ok (.iload_n 1, 1) := dk_27 (dk_at dksX6_check_0 0 rfl rfl)
theorem dX6_check_1 : decode cX6_check 1 = .ok (.iconst 0, 1) := dk_3 (dk_at dksX6_check_0 1 rfl rfl)
theorem dX6_check_2 : decode cX6_check 2 = .ok (.bipush 24, 2) := dk_16 24 (dk_at dksX6_check_0 2 rfl rfl)
theorem dX6_check_4 : decode cX6_check 4 = .ok (.invokestatic 102, 3) := dk_184 0 102 (dk_at dksX6_check_0 4 rfl rfl)
theorem dX6_check_7 : decode cX6_check 7 = .ok (.ifCond .eq 11, 3) := dk_153 0 11 (dk_at dksX6_check_0 7 rfl rfl)
theorem dX6_check_10 : decode cX6_check 10 = .ok (.iload_n 1, 1) := dk_27 (dk_at dksX6_check_0 10 rfl rfl)
theorem dX6_check_11 : decode cX6_check 11 = .ok (.aload_n 0, 1) := dk_42 (dk_at dksX6_check_0 11 rfl rfl)
theorem dX6_check_12 : decode cX6_check 12 = .ok (.getfield 117, 3) := dk_180 0 117 (dk_at dksX6_check_0 12 rfl rfl)
theorem dX6_check_15 : decode cX6_check 15 = .ok (.if_icmp .le 6, 3) := dk_164 0 6 (dk_at dksX6_check_0 15 rfl rfl)
theorem dX6_check_18 : decode cX6_check 18 = .ok (.bipush (-2), 2) := dk_16 254 (dk_at dksX6_check_0 18 rfl rfl)
theorem dX6_check_20 : decode cX6_check 20 = .ok (.ireturn, 1) := dk_172 (dk_at dksX6_check_0 20 rfl rfl)
theorem dX6_check_21 : decode cX6_check 21 = .ok (.aload_n 0, 1) := dk_42 (dk_at dksX6_check_0 21 rfl rfl)
theorem dX6_check_22 : decode cX6_check 22 = .ok (.iconst 0, 1) := dk_3 (dk_at dksX6_check_0 22 rfl rfl)
theorem dX6_check_23 : decode cX6_check 23 = .ok (.putfield 117, 3) := dk_181 0 117 (dk_at dksX6_check_1 0 rfl rfl)
theorem dX6_check_26 : decode cX6_check 26 = .ok (.iconst 0, 1) := dk_3 (dk_at dksX6_check_1 3 rfl rfl)
theorem dX6_check_27 : decode cX6_check 27 = .ok (.istore_n 2, 1) := dk_61 (dk_at dksX6_check_1 4 rfl rfl)
theorem dX6_check_28 : decode cX6_check 28 = .ok (.iload_n 2, 1) := dk_28 (dk_at dksX6_check_1 5 rfl rfl)
theorem dX6_check_29 : decode cX6_check 29 = .ok (.iload_n 1, 1) := dk_27 (dk_at dksX6_check_1 6 rfl rfl)
theorem dX6_check_30 : decode cX6_check 30 = .ok (.if_icmp .ge 58, 3) := dk_162 0 58 (dk_at dksX6_check_1 7 rfl rfl)
theorem dX6_check_33 : decode cX6_check 33 = .ok (.aload_n 0, 1) := dk_42 (dk_at dksX6_check_1 10 rfl rfl)
theorem dX6_check_34 : decode cX6_check 34 = .ok (.iload_n 2, 1) := dk_28 (dk_at dksX6_check_1 11 rfl rfl)
theorem dX6_check_35 : decode cX6_check 35 = .ok (.invokevirtual 379, 3) := dk_182 1 123 (dk_at dksX6_check_1 12 rfl rfl)
theorem dX6_check_38 : decode cX6_check 38 = .ok (.aload_n 0, 1) := dk_42 (dk_at dksX6_check_1 15 rfl rfl)
theorem dX6_check_39 : decode cX6_check 39 = .ok (.iload_n 2, 1) := dk_28 (dk_at dksX6_check_1 16 rfl rfl)
theorem dX6_check_40 : decode cX6_check 40 = .ok (.invokevirtual 114, 3) := dk_182 0 114 (dk_at dksX6_check_1 17 rfl rfl)
theorem dX6_check_43 : decode cX6_check 43 = .ok (.ifCond .eq 33, 3) := dk_153 0 33 (dk_at dksX6_check_1 20 rfl rfl)
theorem dX6_check_46 : decode cX6_check 46 = .ok (.aload_n 0, 1) := dk_42 (dk_at dksX6_check_1 23 rfl rfl)
theorem dX6_check_47 : decode cX6_check 47 = .ok (.getfield 7, 3) := dk_180 0 7 (dk_at dksX6_check_2 0 rfl rfl)
theorem dX6_check_50 : decode cX6_check 50 = .ok (.sipush 288, 3) := dk_17 1 32 (dk_at dksX6_check_2 3 rfl rfl)
theorem dX6_check_53 : decode cX6_check 53 = .ok (.iload_n 2, 1) := dk_28 (dk_at dksX6_check_2 6 rfl rfl)
theorem dX6_check_54 : decode cX6_check 54 = .ok (.iadd, 1) := dk_96 (dk_at dksX6_check_2 7 rfl rfl)
theorem dX6_check_55 : decode cX6_check 55 = .ok (.iaload, 1) := dk_46 (dk_at dksX6_check_2 8 rfl rfl)
theorem dX6_check_56 : decode cX6_check 56 = .ok (.ifCond .ne 20, 3) := dk_154 0 20 (dk_at dksX6_check_2 9 rfl rfl)
theorem dX6_check_59 : decode cX6_check 59 = .ok (.aload_n 0, 1) := dk_42 (dk_at dksX6_check_2 12 rfl rfl)
theorem dX6_check_60 : decode cX6_check 60 = .ok (.getfield 7, 3) := dk_180 0 7 (dk_at dksX6_check_2 13 rfl rfl)
theorem dX6_check_63 : decode cX6_check 63 = .ok (.sipush 240, 3) := dk_17 0 240 (dk_at dksX6_check_2 16 rfl rfl)
theorem dX6_check_66 : decode cX6_check 66 = .ok (.iload_n 2, 1) := dk_28 (dk_at dksX6_check_2 19 rfl rfl)
theorem dX6_check_67 : decode cX6_check 67 = .ok (.iadd, 1) := dk_96 (dk_at dksX6_check_2 20 rfl rfl)
theorem dX6_check_68 : decode cX6_check 68 = .ok (.iaload, 1) := dk_46 (dk_at dksX6_check_2 21 rfl rfl)
theorem dX6_check_69 : decode cX6_check 69 = .ok (.sipush 256, 3) := dk_17 1 0 (dk_at dksX6_check_3 0 rfl rfl)
theorem dX6_check_72 : decode cX6_check 72 = .ok (.irem, 1) := dk_112 (dk_at dksX6_check_3 3 rfl rfl)
theorem dX6_check_73 : decode cX6_check 73 = .ok (.goto 4, 3) := dk_167 0 4 (dk_at dksX6_check_3 4 rfl rfl)
theorem dX6_check_76 : decode cX6_check 76 = .ok (.iconst 0, 1) := dk_3 (dk_at dksX6_check_3 7 rfl rfl)
theorem dX6_check_77 : decode cX6_check 77 = .ok (.if_icmp .eq 5, 3) := dk_159 0 5 (dk_at dksX6_check_3 8 rfl rfl)
theorem dX6_check_80 : decode cX6_check 80 = .ok (.iload_n 2, 1) := dk_28 (dk_at dksX6_check_3 11 rfl rfl)
theorem dX6_check_81 : decode cX6_check 81 = .ok (.ireturn, 1) := dk_172 (dk_at dksX6_check_3 12 rfl rfl)
theorem dX6_check_82 : decode cX6_check 82 = .ok (.iinc 2 1, 3) := dk_132 2 1 (dk_at dksX6_check_3 13 rfl rfl)
theorem dX6_check_85 : decode cX6_check 85 = .ok (.goto (-57), 3) := dk_167 255 199 (dk_at dksX6_check_3 16 rfl rfl)
theorem dX6_check_88 : decode cX6_check 88 = .ok (.iconst (-1), 1) := dk_2 (dk_at dksX6_check_3 19 rfl rfl)
theorem dX6_check_89 : decode cX6_check 89 = .ok (.ireturn, 1) := dk_172 (dk_at dksX6_check_3 20 rfl rfl)
abbrev cX6_count : ByteArray := prog_20_method_108_code
def yX6_count : MethodName := ⟨RX6, "count", "(I)I"⟩
def dkwX6_count_4 : List UInt8 := [180, 0, 117, 172, 42, 180, 0, 7, 17, 1, 58, 46, 172, 42, 182, 1, 151, 172, 2, 172]
abbrev dktX6_count_4 : List UInt8 := dkwX6_count_4 ++ []
def dkwX6_count_3 : List UInt8 := [172, 42, 5, 182, 1, 69, 172, 42, 180, 0, 7, 17, 1, 56, 46, 172, 42, 180, 0, 218, 172, 42]
abbrev dktX6_count_3 : List UInt8 := dkwX6_count_3 ++ dktX6_count_4
def dkwX6_count_2 : List UInt8 := [42, 180, 0, 7, 17, 1, 57, 46, 172, 42, 182, 1, 148, 172, 42, 182, 1, 72, 172, 42, 4, 182, 1, 69]
abbrev dktX6_count_2 : List UInt8 := dkwX6_count_2 ++ dktX6_count_3
def dkwX6_count_1 : List UInt8 := [170, 0, 0, 0, 0, 0, 119, 0, 0, 0, 0, 0, 0, 0, 9, 0, 0, 0, 55, 0, 0, 0, 64, 0, 0, 0, 69, 0, 0, 0, 74, 0, 0, 0, 80, 0, 0, 0, 86, 0, 0, 0, 95, 0, 0, 0, 100, 0, 0, 0, 105, 0, 0, 0, 114]
abbrev dktX6_count_1 : List UInt8 := dkwX6_count_1 ++ dktX6_count_2
def dkwX6_count_0 : List UInt8 := [27]
abbrev dktX6_count_0 : List UInt8 := dkwX6_count_0 ++ dktX6_count_1
theorem dksX6_count_0 : cX6_count.data.toList.drop 0 = dktX6_count_0 := by decide +kernel
theorem dksX6_count_1 : cX6_count.data.toList.drop 1 = dktX6_count_1 := dk_seg dksX6_count_0 1 rfl rfl
theorem dksX6_count_2 : cX6_count.data.toList.drop 56 = dktX6_count_2 := dk_seg dksX6_count_1 55 rfl rfl
theorem dksX6_count_3 : cX6_count.data.toList.drop 80 = dktX6_count_3 := dk_seg dksX6_count_2 24 rfl rfl
theorem dksX6_count_4 : cX6_count.data.toList.drop 102 = dktX6_count_4 := dk_seg dksX6_count_3 22 rfl rfl
theorem dX6_count_0 : decode cX6_count 0 = .ok (.iload_n 1, 1) := dk_27 (dk_at dksX6_count_0 0 rfl rfl)
theorem dX6_count_1 : decode cX6_count 1 = .ok (.tableswitch 119 0 9 #[55, 64, 69, 74, 80, 86, 95, 100, 105, 114], 55) := by decide +kernel
theorem dX6_count_56 : decode cX6_count 56 = .ok (.aload_n 0, 1) := dk_42 (dk_at dksX6_count_2 0 rfl rfl)
theorem dX6_count_57 : decode cX6_count 57 = .ok (.getfield 7, 3) := dk_180 0 7 (dk_at dksX6_count_2 1 rfl rfl)
theorem dX6_count_60 : decode cX6_count 60 = .ok (.sipush 313, 3) := dk_17 1 57 (dk_at dksX6_count_2 4 rfl rfl)
theorem dX6_count_63 : decode cX6_count 63 = .ok (.iaload, 1) := dk_46 (dk_at dksX6_count_2 7 rfl rfl)
theorem dX6_count_64 : decode cX6_count 64 = .ok (.ireturn, 1) := dk_172 (dk_at dksX6_count_2 8 rfl rfl)
theorem dX6_count_65 : decode cX6_count 65 = .ok (.aload_n 0, 1) := dk_42 (dk_at dksX6_count_2 9 rfl rfl)
theorem dX6_count_66 : decode cX6_count 66 = .ok (.invokevirtual 404, 3) := dk_182 1 148 (dk_at dksX6_count_2 10 rfl rfl)
theorem dX6_count_69 : decode cX6_count 69 = .ok (.ireturn, 1) := dk_172 (dk_at dksX6_count_2 13 rfl rfl)
theorem dX6_count_70 : decode cX6_count 70 = .ok (.aload_n 0, 1) := dk_42 (dk_at dksX6_count_2 14 rfl rfl)
theorem dX6_count_71 : decode cX6_count 71 = .ok (.invokevirtual 328, 3) := dk_182 1 72 (dk_at dksX6_count_2 15 rfl rfl)
theorem dX6_count_74 : decode cX6_count 74 = .ok (.ireturn, 1) := dk_172 (dk_at dksX6_count_2 18 rfl rfl)
theorem dX6_count_75 : decode cX6_count 75 = .ok (.aload_n 0, 1) := dk_42 (dk_at dksX6_count_2 19 rfl rfl)
theorem dX6_count_76 : decode cX6_count 76 = .ok (.iconst 1, 1) := dk_4 (dk_at dksX6_count_2 20 rfl rfl)
theorem dX6_count_77 : decode cX6_count 77 = .ok (.invokevirtual 325, 3) := dk_182 1 69 (dk_at dksX6_count_2 21 rfl rfl)
theorem dX6_count_80 : decode cX6_count 80 = .ok (.ireturn, 1) := dk_172 (dk_at dksX6_count_3 0 rfl rfl)
theorem dX6_count_81 : decode cX6_count 81 = .ok (.aload_n 0, 1) := dk_42 (dk_at dksX6_count_3 1 rfl rfl)
theorem dX6_count_82 : decode cX6_count 82 = .ok (.iconst 2, 1) := dk_5 (dk_at dksX6_count_3 2 rfl rfl)
theorem dX6_count_83 : decode cX6_count 83 = .ok (.invokevirtual 325, 3) := dk_182 1 69 (dk_at dksX6_count_3 3 rfl rfl)
theorem dX6_count_86 : decode cX6_count 86 = .ok (.ireturn, 1) := dk_172 (dk_at dksX6_count_3 6 rfl rfl)
theorem dX6_count_87 : decode cX6_count 87 = .ok (.aload_n 0, 1) := dk_42 (dk_at dksX6_count_3 7 rfl rfl)
theorem dX6_count_88 : decode cX6_count 88 = .ok (.getfield 7, 3) := dk_180 0 7 (dk_at dksX6_count_3 8 rfl rfl)
theorem dX6_count_91 : decode cX6_count 91 = .ok (.sipush 312, 3) := dk_17 1 56 (dk_at dksX6_count_3 11 rfl rfl)
theorem dX6_count_94 : decode cX6_count 94 = .ok (.iaload, 1) := dk_46 (dk_at dksX6_count_3 14 rfl rfl)
theorem dX6_count_95 : decode cX6_count 95 = .ok (.ireturn, 1) := dk_172 (dk_at dksX6_count_3 15 rfl rfl)
theorem dX6_count_96 : decode cX6_count 96 = .ok (.aload_n 0, 1) := dk_42 (dk_at dksX6_count_3 16 rfl rfl)
theorem dX6_count_97 : decode cX6_count 97 = .ok (.getfield 218, 3) := dk_180 0 218 (dk_at dksX6_count_3 17 rfl rfl)
theorem dX6_count_100 : decode cX6_count 100 = .ok (.ireturn, 1) := dk_172 (dk_at dksX6_count_3 20 rfl rfl)
theorem dX6_count_101 : decode cX6_count 101 = .ok (.aload_n 0, 1) := dk_42 (dk_at dksX6_count_3 21 rfl rfl)
theorem dX6_count_102 : decode cX6_count 102 = .ok (.getfield 117, 3) := dk_180 0 117 (dk_at dksX6_count_4 0 rfl rfl)
theorem dX6_count_105 : decode cX6_count 105 = .ok (.ireturn, 1) := dk_172 (dk_at dksX6_count_4 3 rfl rfl)
theorem dX6_count_106 : decode cX6_count 106 = .ok (.aload_n 0, 1) := dk_42 (dk_at dksX6_count_4 4 rfl rfl)
theorem dX6_count_107 : decode cX6_count 107 = .ok (.getfield 7, 3) := dk_180 0 7 (dk_at dksX6_count_4 5 rfl rfl)
theorem dX6_count_110 : decode cX6_count 110 = .ok (.sipush 314, 3) := dk_17 1 58 (dk_at dksX6_count_4 8 rfl rfl)
theorem dX6_count_113 : decode cX6_count 113 = .ok (.iaload, 1) := dk_46 (dk_at dksX6_count_4 11 rfl rfl)
theorem dX6_count_114 : decode cX6_count 114 = .ok (.ireturn, 1) := dk_172 (dk_at dksX6_count_4 12 rfl rfl)
theorem dX6_count_115 : decode cX6_count 115 = .ok (.aload_n 0, 1) := dk_42 (dk_at dksX6_count_4 13 rfl rfl)
theorem dX6_count_116 : decode cX6_count 116 = .ok (.invokevirtual 407, 3) := dk_182 1 151 (dk_at dksX6_count_4 14 rfl rfl)
theorem dX6_count_119 : decode cX6_count 119 = .ok (.ireturn, 1) := dk_172 (dk_at dksX6_count_4 17 rfl rfl)
theorem dX6_count_120 : decode cX6_count 120 = .ok (.iconst (-1), 1) := dk_2 (dk_at dksX6_count_4 18 rfl rfl)
theorem dX6_count_121 : decode cX6_count 121 = .ok (.ireturn, 1) := dk_172 (dk_at dksX6_count_4 19 rfl rfl)
abbrev cX6_toldSet : ByteArray := prog_20_method_106_code
def yX6_toldSet : MethodName := ⟨RX6, "toldSet", "()I"⟩
def dkwX6_toldSet_1 : List UInt8 := [132, 2, 1, 167, 255, 233, 27, 172]
abbrev dktX6_toldSet_1 : List UInt8 := dkwX6_toldSet_1 ++ []
def dkwX6_toldSet_0 : List UInt8 := [3, 60, 3, 61, 28, 16, 24, 162, 0, 23, 42, 28, 182, 0, 114, 153, 0, 9, 27, 4, 28, 120, 128, 60]
abbrev dktX6_toldSet_0 : List UInt8 := dkwX6_toldSet_0 ++ dktX6_toldSet_1
theorem dksX6_toldSet_0 : cX6_toldSet.data.toList.drop 0 = dktX6_toldSet_0 := by decide +kernel
theorem dksX6_toldSet_1 : cX6_toldSet.data.toList.drop 24 = dktX6_toldSet_1 := dk_seg dksX6_toldSet_0 24 rfl rfl
theorem dX6_toldSet_0 : decode cX6_toldSet 0 = .ok (.iconst 0, 1) := dk_3 (dk_at dksX6_toldSet_0 0 rfl rfl)
theorem dX6_toldSet_1 : decode cX6_toldSet 1 = .ok (.istore_n 1, 1) := dk_60 (dk_at dksX6_toldSet_0 1 rfl rfl)
theorem dX6_toldSet_2 : decode cX6_toldSet 2 = .ok (.iconst 0, 1) := dk_3 (dk_at dksX6_toldSet_0 2 rfl rfl)
theorem dX6_toldSet_3 : decode cX6_toldSet 3 = .ok (.istore_n 2, 1) := dk_61 (dk_at dksX6_toldSet_0 3 rfl rfl)
theorem dX6_toldSet_4 : decode cX6_toldSet 4 = .ok (.iload_n 2, 1) := dk_28 (dk_at dksX6_toldSet_0 4 rfl rfl)
theorem dX6_toldSet_5 : decode cX6_toldSet 5 = .ok (.bipush 24, 2) := dk_16 24 (dk_at dksX6_toldSet_0 5 rfl rfl)
theorem dX6_toldSet_7 : decode cX6_toldSet 7 = .ok (.if_icmp .ge 23, 3) := dk_162 0 23 (dk_at dksX6_toldSet_0 7 rfl rfl)
theorem dX6_toldSet_10 : decode cX6_toldSet 10 = .ok (.aload_n 0, 1) := dk_42 (dk_at dksX6_toldSet_0 10 rfl rfl)
theorem dX6_toldSet_11 : decode cX6_toldSet 11 = .ok (.iload_n 2, 1) := dk_28 (dk_at dksX6_toldSet_0 11 rfl rfl)
theorem dX6_toldSet_12 : decode cX6_toldSet 12 = .ok (.invokevirtual 114, 3) := dk_182 0 114 (dk_at dksX6_toldSet_0 12 rfl rfl)
theorem dX6_toldSet_15 : decode cX6_toldSet 15 = .ok (.ifCond .eq 9, 3) := dk_153 0 9 (dk_at dksX6_toldSet_0 15 rfl rfl)
theorem dX6_toldSet_18 : decode cX6_toldSet 18 = .ok (.iload_n 1, 1) := dk_27 (dk_at dksX6_toldSet_0 18 rfl rfl)
theorem dX6_toldSet_19 : decode cX6_toldSet 19 = .ok (.iconst 1, 1) := dk_4 (dk_at dksX6_toldSet_0 19 rfl rfl)
theorem dX6_toldSet_20 : decode cX6_toldSet 20 = .ok (.iload_n 2, 1) := dk_28 (dk_at dksX6_toldSet_0 20 rfl rfl)
theorem dX6_toldSet_21 : decode cX6_toldSet 21 = .ok (.ishl, 1) := dk_120 (dk_at dksX6_toldSet_0 21 rfl rfl)
theorem dX6_toldSet_22 : decode cX6_toldSet 22 = .ok (.ior, 1) := dk_128 (dk_at dksX6_toldSet_0 22 rfl rfl)
theorem dX6_toldSet_23 : decode cX6_toldSet 23 = .ok (.istore_n 1, 1) := dk_60 (dk_at dksX6_toldSet_0 23 rfl rfl)
theorem dX6_toldSet_24 : decode cX6_toldSet 24 = .ok (.iinc 2 1, 3) := dk_132 2 1 (dk_at dksX6_toldSet_1 0 rfl rfl)
theorem dX6_toldSet_27 : decode cX6_toldSet 27 = .ok (.goto (-23), 3) := dk_167 255 233 (dk_at dksX6_toldSet_1 3 rfl rfl)
theorem dX6_toldSet_30 : decode cX6_toldSet 30 = .ok (.iload_n 1, 1) := dk_27 (dk_at dksX6_toldSet_1 6 rfl rfl)
theorem dX6_toldSet_31 : decode cX6_toldSet 31 = .ok (.ireturn, 1) := dk_172 (dk_at dksX6_toldSet_1 7 rfl rfl)
abbrev cX6_lostAll : ByteArray := prog_20_method_107_code
def yX6_lostAll : MethodName := ⟨RX6, "lostAll", "()I"⟩
def dkwX6_lostAll_1 : List UInt8 := [180, 0, 7, 17, 0, 240, 28, 96, 46, 96, 60, 132, 2, 1, 167, 255, 223, 27, 172]
abbrev dktX6_lostAll_1 : List UInt8 := dkwX6_lostAll_1 ++ []
def dkwX6_lostAll_0 : List UInt8 := [3, 60, 3, 61, 28, 16, 24, 162, 0, 33, 42, 182, 1, 72, 28, 184, 1, 120, 153, 0, 16, 27, 42]
abbrev dktX6_lostAll_0 : List UInt8 := dkwX6_lostAll_0 ++ dktX6_lostAll_1
theorem dksX6_lostAll_0 : cX6_lostAll.data.toList.drop 0 = dktX6_lostAll_0 := by decide +kernel
theorem dksX6_lostAll_1 : cX6_lostAll.data.toList.drop 23 = dktX6_lostAll_1 := dk_seg dksX6_lostAll_0 23 rfl rfl
theorem dX6_lostAll_0 : decode cX6_lostAll 0 = .ok (.iconst 0, 1) := dk_3 (dk_at dksX6_lostAll_0 0 rfl rfl)
theorem dX6_lostAll_1 : decode cX6_lostAll 1 = .ok (.istore_n 1, 1) := dk_60 (dk_at dksX6_lostAll_0 1 rfl rfl)
theorem dX6_lostAll_2 : decode cX6_lostAll 2 = .ok (.iconst 0, 1) := dk_3 (dk_at dksX6_lostAll_0 2 rfl rfl)
theorem dX6_lostAll_3 : decode cX6_lostAll 3 = .ok (.istore_n 2, 1) := dk_61 (dk_at dksX6_lostAll_0 3 rfl rfl)
theorem dX6_lostAll_4 : decode cX6_lostAll 4 = .ok (.iload_n 2, 1) := dk_28 (dk_at dksX6_lostAll_0 4 rfl rfl)
theorem dX6_lostAll_5 : decode cX6_lostAll 5 = .ok (.bipush 24, 2) := dk_16 24 (dk_at dksX6_lostAll_0 5 rfl rfl)
theorem dX6_lostAll_7 : decode cX6_lostAll 7 = .ok (.if_icmp .ge 33, 3) := dk_162 0 33 (dk_at dksX6_lostAll_0 7 rfl rfl)
theorem dX6_lostAll_10 : decode cX6_lostAll 10 = .ok (.aload_n 0, 1) := dk_42 (dk_at dksX6_lostAll_0 10 rfl rfl)
theorem dX6_lostAll_11 : decode cX6_lostAll 11 = .ok (.invokevirtual 328, 3) := dk_182 1 72 (dk_at dksX6_lostAll_0 11 rfl rfl)
theorem dX6_lostAll_14 : decode cX6_lostAll 14 = .ok (.iload_n 2, 1) := dk_28 (dk_at dksX6_lostAll_0 14 rfl rfl)
theorem dX6_lostAll_15 : decode cX6_lostAll 15 = .ok (.invokestatic 376, 3) := dk_184 1 120 (dk_at dksX6_lostAll_0 15 rfl rfl)
theorem dX6_lostAll_18 : decode cX6_lostAll 18 = .ok (.ifCond .eq 16, 3) := dk_153 0 16 (dk_at dksX6_lostAll_0 18 rfl rfl)
theorem dX6_lostAll_21 : decode cX6_lostAll 21 = .ok (.iload_n 1, 1) := dk_27 (dk_at dksX6_lostAll_0 21 rfl rfl)
theorem dX6_lostAll_22 : decode cX6_lostAll 22 = .ok (.aload_n 0, 1) := dk_42 (dk_at dksX6_lostAll_0 22 rfl rfl)
theorem dX6_lostAll_23 : decode cX6_lostAll 23 = .ok (.getfield 7, 3) := dk_180 0 7 (dk_at dksX6_lostAll_1 0 rfl rfl)
theorem dX6_lostAll_26 : decode cX6_lostAll 26 = .ok (.sipush 240, 3) := dk_17 0 240 (dk_at dksX6_lostAll_1 3 rfl rfl)
theorem dX6_lostAll_29 : decode cX6_lostAll 29 = .ok (.iload_n 2, 1) := dk_28 (dk_at dksX6_lostAll_1 6 rfl rfl)
theorem dX6_lostAll_30 : decode cX6_lostAll 30 = .ok (.iadd, 1) := dk_96 (dk_at dksX6_lostAll_1 7 rfl rfl)
theorem dX6_lostAll_31 : decode cX6_lostAll 31 = .ok (.iaload, 1) := dk_46 (dk_at dksX6_lostAll_1 8 rfl rfl)
theorem dX6_lostAll_32 : decode cX6_lostAll 32 = .ok (.iadd, 1) := dk_96 (dk_at dksX6_lostAll_1 9 rfl rfl)
theorem dX6_lostAll_33 : decode cX6_lostAll 33 = .ok (.istore_n 1, 1) := dk_60 (dk_at dksX6_lostAll_1 10 rfl rfl)
theorem dX6_lostAll_34 : decode cX6_lostAll 34 = .ok (.iinc 2 1, 3) := dk_132 2 1 (dk_at dksX6_lostAll_1 11 rfl rfl)
theorem dX6_lostAll_37 : decode cX6_lostAll 37 = .ok (.goto (-33), 3) := dk_167 255 223 (dk_at dksX6_lostAll_1 14 rfl rfl)
theorem dX6_lostAll_40 : decode cX6_lostAll 40 = .ok (.iload_n 1, 1) := dk_27 (dk_at dksX6_lostAll_1 17 rfl rfl)
theorem dX6_lostAll_41 : decode cX6_lostAll 41 = .ok (.ireturn, 1) := dk_172 (dk_at dksX6_lostAll_1 18 rfl rfl)
theorem q120 : (Jvm.Cond.initialized "InsuredFlameModel") ∈ lw_all := lw_g (lw_at lw_m1 7 rfl) rfl
theorem q1179 : (Jvm.Cond.instantiable "InsuredFlameModel" (46 : Nat)) ∈ lw_all := lw_g (lw_at lw_m5 106 rfl) rfl
theorem q1181 : (Jvm.Cond.instanceMethod ({ cls := "InsuredFlameModel", name := "<init>", desc := "()V" } : Jvm.MethodName)) ∈ lw_all := lw_g (lw_at lw_m5 108 rfl) rfl
theorem q1182 : (Jvm.Cond.code ({ cls := "InsuredFlameModel", name := "<init>", desc := "()V" } : Jvm.MethodName) prog_20_method_1_code (1 : Nat) (Option.none : Option Jvm.ClassFile.FieldType)) ∈ lw_all := lw_g (lw_at lw_m5 109 rfl) rfl
theorem q1183 : (Jvm.Cond.methodLink "InsuredFlameModel" (1 : Nat) ({ cls := "java/lang/Object", name := "<init>", desc := "()V" } : Jvm.MethodName)) ∈ lw_all := lw_g (lw_at lw_m5 110 rfl) rfl
theorem q1184 : (Jvm.Cond.fieldLink "InsuredFlameModel" (7 : Nat) "InsuredFlameModel" "now" "[I") ∈ lw_all := lw_g (lw_at lw_m5 111 rfl) rfl
theorem q1185 : (Jvm.Cond.fieldLink "InsuredFlameModel" (13 : Nat) "InsuredFlameModel" "aside" "[I") ∈ lw_all := lw_g (lw_at lw_m5 112 rfl) rfl
theorem q1186 : (Jvm.Cond.fieldLink "InsuredFlameModel" (16 : Nat) "InsuredFlameModel" "kept" "[I") ∈ lw_all := lw_g (lw_at lw_m5 113 rfl) rfl
theorem q1187 : (Jvm.Cond.fieldLink "InsuredFlameModel" (19 : Nat) "InsuredFlameModel" "kindOf" "[I") ∈ lw_all := lw_g (lw_at lw_m5 114 rfl) rfl
theorem q1188 : (Jvm.Cond.fieldLink "InsuredFlameModel" (22 : Nat) "InsuredFlameModel" "wasKind" "[I") ∈ lw_all := lw_g (lw_at lw_m5 115 rfl) rfl
theorem q1189 : (Jvm.Cond.fieldLink "InsuredFlameModel" (25 : Nat) "InsuredFlameModel" "tape" "[B") ∈ lw_all := lw_g (lw_at lw_m5 116 rfl) rfl
theorem q1190 : (Jvm.Cond.fieldLink "InsuredFlameModel" (117 : Nat) "InsuredFlameModel" "taped" "I") ∈ lw_all := lw_g (lw_at lw_m5 117 rfl) rfl
theorem q1191 : (Jvm.Cond.fieldLink "InsuredFlameModel" (125 : Nat) "InsuredFlameModel" "place0" "I") ∈ lw_all := lw_g (lw_at lw_m5 118 rfl) rfl
theorem q1192 : (Jvm.Cond.fieldLink "InsuredFlameModel" (128 : Nat) "InsuredFlameModel" "length0" "I") ∈ lw_all := lw_g (lw_at lw_m5 119 rfl) rfl
theorem q1193 : (Jvm.Cond.fieldLink "InsuredFlameModel" (135 : Nat) "InsuredFlameModel" "fault" "I") ∈ lw_all := lw_g (lw_at lw_m5 120 rfl) rfl
theorem q1194 : (Jvm.Cond.fieldLink "InsuredFlameModel" (141 : Nat) "InsuredFlameModel" "number0" "I") ∈ lw_all := lw_g (lw_at lw_m5 121 rfl) rfl
theorem q1195 : (Jvm.Cond.fieldLink "InsuredFlameModel" (152 : Nat) "InsuredFlameModel" "open" "I") ∈ lw_all := lw_g (lw_at lw_m5 122 rfl) rfl
theorem q1196 : (Jvm.Cond.fieldLink "InsuredFlameModel" (148 : Nat) "InsuredFlameModel" "codeMany" "I") ∈ lw_all := lw_g (lw_at lw_m5 123 rfl) rfl
theorem q1197 : (Jvm.Cond.fieldLink "InsuredFlameModel" (155 : Nat) "InsuredFlameModel" "waiting" "I") ∈ lw_all := lw_g (lw_at lw_m5 124 rfl) rfl
theorem q1198 : (Jvm.Cond.fieldLink "InsuredFlameModel" (203 : Nat) "InsuredFlameModel" "saidMany" "I") ∈ lw_all := lw_g (lw_at lw_m5 125 rfl) rfl
theorem q1199 : (Jvm.Cond.fieldLink "InsuredFlameModel" (218 : Nat) "InsuredFlameModel" "clauses" "I") ∈ lw_all := lw_g (lw_at lw_m5 126 rfl) rfl
theorem q1200 : (Jvm.Cond.fieldLink "InsuredFlameModel" (29 : Nat) "InsuredFlameModel" "said" "[I") ∈ lw_all := lw_g (lw_at lw_m5 127 rfl) rfl
theorem q1201 : (Jvm.Cond.fieldLink "InsuredFlameModel" (32 : Nat) "InsuredFlameModel" "waitsAt" "[I") ∈ lw_all := lw_g (lw_at lw_m5 128 rfl) rfl
theorem q1202 : (Jvm.Cond.fieldLink "InsuredFlameModel" (35 : Nat) "InsuredFlameModel" "saidLetter" "[I") ∈ lw_all := lw_g (lw_at lw_m5 129 rfl) rfl
theorem q1203 : (Jvm.Cond.fieldLink "InsuredFlameModel" (38 : Nat) "InsuredFlameModel" "saidFrom" "[I") ∈ lw_all := lw_g (lw_at lw_m5 130 rfl) rfl
theorem q1204 : (Jvm.Cond.fieldLink "InsuredFlameModel" (41 : Nat) "InsuredFlameModel" "saidHalf" "[I") ∈ lw_all := lw_g (lw_at lw_m5 131 rfl) rfl
theorem q1205 : (Jvm.Cond.fieldLink "InsuredFlameModel" (44 : Nat) "InsuredFlameModel" "saidTo" "[I") ∈ lw_all := lw_g (lw_at lw_m5 132 rfl) rfl
theorem q1206 : (Jvm.Cond.fieldLink "InsuredFlameModel" (47 : Nat) "InsuredFlameModel" "codes" "[I") ∈ lw_all := lw_g (lw_at lw_m5 133 rfl) rfl
theorem q1207 : (Jvm.Cond.fieldLink "InsuredFlameModel" (50 : Nat) "InsuredFlameModel" "clauseOf" "[I") ∈ lw_all := lw_g (lw_at lw_m5 134 rfl) rfl
theorem q1208 : (Jvm.Cond.fieldLink "InsuredFlameModel" (53 : Nat) "InsuredFlameModel" "codeFrom" "[I") ∈ lw_all := lw_g (lw_at lw_m5 135 rfl) rfl
theorem q1209 : (Jvm.Cond.fieldLink "InsuredFlameModel" (56 : Nat) "InsuredFlameModel" "codeHalf" "[I") ∈ lw_all := lw_g (lw_at lw_m5 136 rfl) rfl
theorem q1210 : (Jvm.Cond.fieldLink "InsuredFlameModel" (59 : Nat) "InsuredFlameModel" "codeTo" "[I") ∈ lw_all := lw_g (lw_at lw_m5 137 rfl) rfl
theorem q1211 : (Jvm.Cond.fieldLink "InsuredFlameModel" (62 : Nat) "InsuredFlameModel" "stack" "[I") ∈ lw_all := lw_g (lw_at lw_m5 138 rfl) rfl
theorem q1212 : (Jvm.Cond.fieldLink "InsuredFlameModel" (65 : Nat) "InsuredFlameModel" "facts" "[I") ∈ lw_all := lw_g (lw_at lw_m5 139 rfl) rfl
theorem q1213 : (Jvm.Cond.fieldLink "InsuredFlameModel" (68 : Nat) "InsuredFlameModel" "newKinds" "[I") ∈ lw_all := lw_g (lw_at lw_m5 140 rfl) rfl
theorem q1214 : (Jvm.Cond.fieldLink "InsuredFlameModel" (256 : Nat) "InsuredFlameModel" "lines" "I") ∈ lw_all := lw_g (lw_at lw_m5 141 rfl) rfl
theorem q1215 : (Jvm.Cond.fieldLink "InsuredFlameModel" (250 : Nat) "InsuredFlameModel" "spot0" "I") ∈ lw_all := lw_g (lw_at lw_m5 142 rfl) rfl
theorem q1216 : (Jvm.Cond.fieldLink "InsuredFlameModel" (244 : Nat) "InsuredFlameModel" "spotFrom" "I") ∈ lw_all := lw_g (lw_at lw_m5 143 rfl) rfl
theorem q1217 : (Jvm.Cond.fieldLink "InsuredFlameModel" (71 : Nat) "InsuredFlameModel" "didBurn" "[Z") ∈ lw_all := lw_g (lw_at lw_m5 144 rfl) rfl
theorem q1218 : (Jvm.Cond.fieldLink "InsuredFlameModel" (294 : Nat) "InsuredFlameModel" "lostNow" "I") ∈ lw_all := lw_g (lw_at lw_m5 145 rfl) rfl
theorem q1219 : (Jvm.Cond.fieldLink "InsuredFlameModel" (75 : Nat) "InsuredFlameModel" "fireAt" "[I") ∈ lw_all := lw_g (lw_at lw_m5 146 rfl) rfl
theorem q1220 : (Jvm.Cond.fieldLink "InsuredFlameModel" (78 : Nat) "InsuredFlameModel" "queue" "[I") ∈ lw_all := lw_g (lw_at lw_m5 147 rfl) rfl
theorem q1221 : (Jvm.Cond.fieldLink "InsuredFlameModel" (81 : Nat) "InsuredFlameModel" "aheadOf" "[I") ∈ lw_all := lw_g (lw_at lw_m5 148 rfl) rfl
theorem q1222 : (Jvm.Cond.fieldLink "InsuredFlameModel" (84 : Nat) "InsuredFlameModel" "behindOf" "[I") ∈ lw_all := lw_g (lw_at lw_m5 149 rfl) rfl
theorem q1223 : (Jvm.Cond.fieldLink "InsuredFlameModel" (87 : Nat) "InsuredFlameModel" "cameBy" "[I") ∈ lw_all := lw_g (lw_at lw_m5 150 rfl) rfl
theorem q1224 : (Jvm.Cond.fieldLink "InsuredFlameModel" (349 : Nat) "InsuredFlameModel" "tail0" "I") ∈ lw_all := lw_g (lw_at lw_m5 151 rfl) rfl
theorem q1225 : (Jvm.Cond.fieldLink "InsuredFlameModel" (90 : Nat) "InsuredFlameModel" "rowNow" "[I") ∈ lw_all := lw_g (lw_at lw_m5 152 rfl) rfl
theorem q1226 : (Jvm.Cond.fieldLink "InsuredFlameModel" (93 : Nat) "InsuredFlameModel" "hereAt" "[I") ∈ lw_all := lw_g (lw_at lw_m5 153 rfl) rfl
theorem q1227 : (Jvm.Cond.fieldLink "InsuredFlameModel" (96 : Nat) "InsuredFlameModel" "walkers" "[I") ∈ lw_all := lw_g (lw_at lw_m5 154 rfl) rfl
theorem q1228 : (Jvm.Cond.fieldLink "InsuredFlameModel" (99 : Nat) "InsuredFlameModel" "rowBy" "[I") ∈ lw_all := lw_g (lw_at lw_m5 155 rfl) rfl
theorem q1229 : (Jvm.Cond.fieldLink "InsuredFlameModel" (400 : Nat) "InsuredFlameModel" "isKept" "Z") ∈ lw_all := lw_g (lw_at lw_m5 156 rfl) rfl
theorem q1230 : (Jvm.Cond.laysFinal "InsuredFlameModel" "InsuredFlameModel" "now" "[I") ∈ lw_all := lw_g (lw_at lw_m5 157 rfl) rfl
theorem q1231 : (Jvm.Cond.soleField "InsuredFlameModel" "now") ∈ lw_all := lw_g (lw_at lw_m5 158 rfl) rfl
theorem q1232 : (Jvm.Cond.laysFinal "InsuredFlameModel" "InsuredFlameModel" "aside" "[I") ∈ lw_all := lw_g (lw_at lw_m5 159 rfl) rfl
theorem q1233 : (Jvm.Cond.soleField "InsuredFlameModel" "aside") ∈ lw_all := lw_g (lw_at lw_m5 160 rfl) rfl
theorem q1234 : (Jvm.Cond.laysFinal "InsuredFlameModel" "InsuredFlameModel" "kept" "[I") ∈ lw_all := lw_g (lw_at lw_m5 161 rfl) rfl
theorem q1235 : (Jvm.Cond.soleField "InsuredFlameModel" "kept") ∈ lw_all := lw_g (lw_at lw_m5 162 rfl) rfl
theorem q1236 : (Jvm.Cond.laysFinal "InsuredFlameModel" "InsuredFlameModel" "kindOf" "[I") ∈ lw_all := lw_g (lw_at lw_m5 163 rfl) rfl
theorem q1237 : (Jvm.Cond.soleField "InsuredFlameModel" "kindOf") ∈ lw_all := lw_g (lw_at lw_m5 164 rfl) rfl
theorem q1238 : (Jvm.Cond.laysFinal "InsuredFlameModel" "InsuredFlameModel" "wasKind" "[I") ∈ lw_all := lw_g (lw_at lw_m5 165 rfl) rfl
theorem q1239 : (Jvm.Cond.soleField "InsuredFlameModel" "wasKind") ∈ lw_all := lw_g (lw_at lw_m5 166 rfl) rfl
theorem q1240 : (Jvm.Cond.laysFinal "InsuredFlameModel" "InsuredFlameModel" "tape" "[B") ∈ lw_all := lw_g (lw_at lw_m5 167 rfl) rfl
theorem q1241 : (Jvm.Cond.soleField "InsuredFlameModel" "tape") ∈ lw_all := lw_g (lw_at lw_m5 168 rfl) rfl
theorem q1242 : (Jvm.Cond.lays "InsuredFlameModel" "InsuredFlameModel" "taped" "I") ∈ lw_all := lw_g (lw_at lw_m5 169 rfl) rfl
theorem q1243 : (Jvm.Cond.soleField "InsuredFlameModel" "taped") ∈ lw_all := lw_g (lw_at lw_m5 170 rfl) rfl
theorem q1244 : (Jvm.Cond.lays "InsuredFlameModel" "InsuredFlameModel" "place0" "I") ∈ lw_all := lw_g (lw_at lw_m5 171 rfl) rfl
theorem q1245 : (Jvm.Cond.soleField "InsuredFlameModel" "place0") ∈ lw_all := lw_g (lw_at lw_m5 172 rfl) rfl
theorem q1246 : (Jvm.Cond.lays "InsuredFlameModel" "InsuredFlameModel" "length0" "I") ∈ lw_all := lw_g (lw_at lw_m5 173 rfl) rfl
theorem q1247 : (Jvm.Cond.soleField "InsuredFlameModel" "length0") ∈ lw_all := lw_g (lw_at lw_m5 174 rfl) rfl
theorem q1248 : (Jvm.Cond.lays "InsuredFlameModel" "InsuredFlameModel" "fault" "I") ∈ lw_all := lw_g (lw_at lw_m5 175 rfl) rfl
theorem q1249 : (Jvm.Cond.soleField "InsuredFlameModel" "fault") ∈ lw_all := lw_g (lw_at lw_m5 176 rfl) rfl
theorem q1250 : (Jvm.Cond.lays "InsuredFlameModel" "InsuredFlameModel" "number0" "I") ∈ lw_all := lw_g (lw_at lw_m5 177 rfl) rfl
theorem q1251 : (Jvm.Cond.soleField "InsuredFlameModel" "number0") ∈ lw_all := lw_g (lw_at lw_m5 178 rfl) rfl
theorem q1252 : (Jvm.Cond.lays "InsuredFlameModel" "InsuredFlameModel" "open" "I") ∈ lw_all := lw_g (lw_at lw_m5 179 rfl) rfl
theorem q1253 : (Jvm.Cond.soleField "InsuredFlameModel" "open") ∈ lw_all := lw_g (lw_at lw_m5 180 rfl) rfl
theorem q1254 : (Jvm.Cond.lays "InsuredFlameModel" "InsuredFlameModel" "codeMany" "I") ∈ lw_all := lw_g (lw_at lw_m5 181 rfl) rfl
theorem q1255 : (Jvm.Cond.soleField "InsuredFlameModel" "codeMany") ∈ lw_all := lw_g (lw_at lw_m5 182 rfl) rfl
theorem q1256 : (Jvm.Cond.lays "InsuredFlameModel" "InsuredFlameModel" "waiting" "I") ∈ lw_all := lw_g (lw_at lw_m5 183 rfl) rfl
theorem q1257 : (Jvm.Cond.soleField "InsuredFlameModel" "waiting") ∈ lw_all := lw_g (lw_at lw_m5 184 rfl) rfl
theorem q1258 : (Jvm.Cond.lays "InsuredFlameModel" "InsuredFlameModel" "saidMany" "I") ∈ lw_all := lw_g (lw_at lw_m5 185 rfl) rfl
theorem q1259 : (Jvm.Cond.soleField "InsuredFlameModel" "saidMany") ∈ lw_all := lw_g (lw_at lw_m5 186 rfl) rfl
theorem q1260 : (Jvm.Cond.lays "InsuredFlameModel" "InsuredFlameModel" "clauses" "I") ∈ lw_all := lw_g (lw_at lw_m5 187 rfl) rfl
theorem q1261 : (Jvm.Cond.soleField "InsuredFlameModel" "clauses") ∈ lw_all := lw_g (lw_at lw_m5 188 rfl) rfl
theorem q1262 : (Jvm.Cond.laysFinal "InsuredFlameModel" "InsuredFlameModel" "said" "[I") ∈ lw_all := lw_g (lw_at lw_m5 189 rfl) rfl
theorem q1263 : (Jvm.Cond.soleField "InsuredFlameModel" "said") ∈ lw_all := lw_g (lw_at lw_m5 190 rfl) rfl
theorem q1264 : (Jvm.Cond.laysFinal "InsuredFlameModel" "InsuredFlameModel" "waitsAt" "[I") ∈ lw_all := lw_g (lw_at lw_m5 191 rfl) rfl
theorem q1265 : (Jvm.Cond.soleField "InsuredFlameModel" "waitsAt") ∈ lw_all := lw_g (lw_at lw_m5 192 rfl) rfl
theorem q1266 : (Jvm.Cond.laysFinal "InsuredFlameModel" "InsuredFlameModel" "saidLetter" "[I") ∈ lw_all := lw_g (lw_at lw_m5 193 rfl) rfl
theorem q1267 : (Jvm.Cond.soleField "InsuredFlameModel" "saidLetter") ∈ lw_all := lw_g (lw_at lw_m5 194 rfl) rfl
theorem q1268 : (Jvm.Cond.laysFinal "InsuredFlameModel" "InsuredFlameModel" "saidFrom" "[I") ∈ lw_all := lw_g (lw_at lw_m5 195 rfl) rfl
theorem q1269 : (Jvm.Cond.soleField "InsuredFlameModel" "saidFrom") ∈ lw_all := lw_g (lw_at lw_m5 196 rfl) rfl
theorem q1270 : (Jvm.Cond.laysFinal "InsuredFlameModel" "InsuredFlameModel" "saidHalf" "[I") ∈ lw_all := lw_g (lw_at lw_m5 197 rfl) rfl
theorem q1271 : (Jvm.Cond.soleField "InsuredFlameModel" "saidHalf") ∈ lw_all := lw_g (lw_at lw_m5 198 rfl) rfl
theorem q1272 : (Jvm.Cond.laysFinal "InsuredFlameModel" "InsuredFlameModel" "saidTo" "[I") ∈ lw_all := lw_g (lw_at lw_m5 199 rfl) rfl
theorem q1273 : (Jvm.Cond.soleField "InsuredFlameModel" "saidTo") ∈ lw_all := lw_g (lw_at lw_m5 200 rfl) rfl
theorem q1274 : (Jvm.Cond.laysFinal "InsuredFlameModel" "InsuredFlameModel" "codes" "[I") ∈ lw_all := lw_g (lw_at lw_m5 201 rfl) rfl
theorem q1275 : (Jvm.Cond.soleField "InsuredFlameModel" "codes") ∈ lw_all := lw_g (lw_at lw_m5 202 rfl) rfl
theorem q1276 : (Jvm.Cond.laysFinal "InsuredFlameModel" "InsuredFlameModel" "clauseOf" "[I") ∈ lw_all := lw_g (lw_at lw_m5 203 rfl) rfl
theorem q1277 : (Jvm.Cond.soleField "InsuredFlameModel" "clauseOf") ∈ lw_all := lw_g (lw_at lw_m5 204 rfl) rfl
theorem q1278 : (Jvm.Cond.laysFinal "InsuredFlameModel" "InsuredFlameModel" "codeFrom" "[I") ∈ lw_all := lw_g (lw_at lw_m5 205 rfl) rfl
theorem q1279 : (Jvm.Cond.soleField "InsuredFlameModel" "codeFrom") ∈ lw_all := lw_g (lw_at lw_m5 206 rfl) rfl
theorem q1280 : (Jvm.Cond.laysFinal "InsuredFlameModel" "InsuredFlameModel" "codeHalf" "[I") ∈ lw_all := lw_g (lw_at lw_m5 207 rfl) rfl
theorem q1281 : (Jvm.Cond.soleField "InsuredFlameModel" "codeHalf") ∈ lw_all := lw_g (lw_at lw_m5 208 rfl) rfl
theorem q1282 : (Jvm.Cond.laysFinal "InsuredFlameModel" "InsuredFlameModel" "codeTo" "[I") ∈ lw_all := lw_g (lw_at lw_m5 209 rfl) rfl
theorem q1283 : (Jvm.Cond.soleField "InsuredFlameModel" "codeTo") ∈ lw_all := lw_g (lw_at lw_m5 210 rfl) rfl
theorem q1284 : (Jvm.Cond.laysFinal "InsuredFlameModel" "InsuredFlameModel" "stack" "[I") ∈ lw_all := lw_g (lw_at lw_m5 211 rfl) rfl
theorem q1285 : (Jvm.Cond.soleField "InsuredFlameModel" "stack") ∈ lw_all := lw_g (lw_at lw_m5 212 rfl) rfl
theorem q1286 : (Jvm.Cond.laysFinal "InsuredFlameModel" "InsuredFlameModel" "facts" "[I") ∈ lw_all := lw_g (lw_at lw_m5 213 rfl) rfl
theorem q1287 : (Jvm.Cond.soleField "InsuredFlameModel" "facts") ∈ lw_all := lw_g (lw_at lw_m5 214 rfl) rfl
theorem q1288 : (Jvm.Cond.laysFinal "InsuredFlameModel" "InsuredFlameModel" "newKinds" "[I") ∈ lw_all := lw_g (lw_at lw_m5 215 rfl) rfl
theorem q1289 : (Jvm.Cond.soleField "InsuredFlameModel" "newKinds") ∈ lw_all := lw_g (lw_at lw_m5 216 rfl) rfl
theorem q1290 : (Jvm.Cond.lays "InsuredFlameModel" "InsuredFlameModel" "lines" "I") ∈ lw_all := lw_g (lw_at lw_m5 217 rfl) rfl
theorem q1291 : (Jvm.Cond.soleField "InsuredFlameModel" "lines") ∈ lw_all := lw_g (lw_at lw_m5 218 rfl) rfl
theorem q1292 : (Jvm.Cond.lays "InsuredFlameModel" "InsuredFlameModel" "spot0" "I") ∈ lw_all := lw_g (lw_at lw_m5 219 rfl) rfl
theorem q1293 : (Jvm.Cond.soleField "InsuredFlameModel" "spot0") ∈ lw_all := lw_g (lw_at lw_m5 220 rfl) rfl
theorem q1294 : (Jvm.Cond.lays "InsuredFlameModel" "InsuredFlameModel" "spotFrom" "I") ∈ lw_all := lw_g (lw_at lw_m5 221 rfl) rfl
theorem q1295 : (Jvm.Cond.soleField "InsuredFlameModel" "spotFrom") ∈ lw_all := lw_g (lw_at lw_m5 222 rfl) rfl
theorem q1296 : (Jvm.Cond.laysFinal "InsuredFlameModel" "InsuredFlameModel" "didBurn" "[Z") ∈ lw_all := lw_g (lw_at lw_m5 223 rfl) rfl
theorem q1297 : (Jvm.Cond.soleField "InsuredFlameModel" "didBurn") ∈ lw_all := lw_g (lw_at lw_m5 224 rfl) rfl
theorem q1298 : (Jvm.Cond.lays "InsuredFlameModel" "InsuredFlameModel" "lostNow" "I") ∈ lw_all := lw_g (lw_at lw_m5 225 rfl) rfl
theorem q1299 : (Jvm.Cond.soleField "InsuredFlameModel" "lostNow") ∈ lw_all := lw_g (lw_at lw_m5 226 rfl) rfl
theorem q1300 : (Jvm.Cond.laysFinal "InsuredFlameModel" "InsuredFlameModel" "fireAt" "[I") ∈ lw_all := lw_g (lw_at lw_m5 227 rfl) rfl
theorem q1301 : (Jvm.Cond.soleField "InsuredFlameModel" "fireAt") ∈ lw_all := lw_g (lw_at lw_m5 228 rfl) rfl
theorem q1302 : (Jvm.Cond.laysFinal "InsuredFlameModel" "InsuredFlameModel" "queue" "[I") ∈ lw_all := lw_g (lw_at lw_m5 229 rfl) rfl
theorem q1303 : (Jvm.Cond.soleField "InsuredFlameModel" "queue") ∈ lw_all := lw_g (lw_at lw_m5 230 rfl) rfl
theorem q1304 : (Jvm.Cond.laysFinal "InsuredFlameModel" "InsuredFlameModel" "aheadOf" "[I") ∈ lw_all := lw_g (lw_at lw_m5 231 rfl) rfl
theorem q1305 : (Jvm.Cond.soleField "InsuredFlameModel" "aheadOf") ∈ lw_all := lw_g (lw_at lw_m5 232 rfl) rfl
theorem q1306 : (Jvm.Cond.laysFinal "InsuredFlameModel" "InsuredFlameModel" "behindOf" "[I") ∈ lw_all := lw_g (lw_at lw_m5 233 rfl) rfl
theorem q1307 : (Jvm.Cond.soleField "InsuredFlameModel" "behindOf") ∈ lw_all := lw_g (lw_at lw_m5 234 rfl) rfl
theorem q1308 : (Jvm.Cond.laysFinal "InsuredFlameModel" "InsuredFlameModel" "cameBy" "[I") ∈ lw_all := lw_g (lw_at lw_m5 235 rfl) rfl
theorem q1309 : (Jvm.Cond.soleField "InsuredFlameModel" "cameBy") ∈ lw_all := lw_g (lw_at lw_m5 236 rfl) rfl
theorem q1310 : (Jvm.Cond.lays "InsuredFlameModel" "InsuredFlameModel" "tail0" "I") ∈ lw_all := lw_g (lw_at lw_m5 237 rfl) rfl
theorem q1311 : (Jvm.Cond.soleField "InsuredFlameModel" "tail0") ∈ lw_all := lw_g (lw_at lw_m5 238 rfl) rfl
theorem q1312 : (Jvm.Cond.laysFinal "InsuredFlameModel" "InsuredFlameModel" "rowNow" "[I") ∈ lw_all := lw_g (lw_at lw_m5 239 rfl) rfl
theorem q1313 : (Jvm.Cond.soleField "InsuredFlameModel" "rowNow") ∈ lw_all := lw_g (lw_at lw_m6 0 rfl) rfl
theorem q1314 : (Jvm.Cond.laysFinal "InsuredFlameModel" "InsuredFlameModel" "hereAt" "[I") ∈ lw_all := lw_g (lw_at lw_m6 1 rfl) rfl
theorem q1315 : (Jvm.Cond.soleField "InsuredFlameModel" "hereAt") ∈ lw_all := lw_g (lw_at lw_m6 2 rfl) rfl
theorem q1316 : (Jvm.Cond.laysFinal "InsuredFlameModel" "InsuredFlameModel" "walkers" "[I") ∈ lw_all := lw_g (lw_at lw_m6 3 rfl) rfl
theorem q1317 : (Jvm.Cond.soleField "InsuredFlameModel" "walkers") ∈ lw_all := lw_g (lw_at lw_m6 4 rfl) rfl
theorem q1318 : (Jvm.Cond.laysFinal "InsuredFlameModel" "InsuredFlameModel" "rowBy" "[I") ∈ lw_all := lw_g (lw_at lw_m6 5 rfl) rfl
theorem q1319 : (Jvm.Cond.soleField "InsuredFlameModel" "rowBy") ∈ lw_all := lw_g (lw_at lw_m6 6 rfl) rfl
theorem q1320 : (Jvm.Cond.lays "InsuredFlameModel" "InsuredFlameModel" "isKept" "Z") ∈ lw_all := lw_g (lw_at lw_m6 7 rfl) rfl
theorem q1321 : (Jvm.Cond.soleField "InsuredFlameModel" "isKept") ∈ lw_all := lw_g (lw_at lw_m6 8 rfl) rfl
theorem q1322 : (Jvm.Cond.superclass "InsuredFlameModel" "java/lang/Object") ∈ lw_all := lw_g (lw_at lw_m6 9 rfl) rfl
theorem q1324 : (Jvm.Cond.instanceMethod ({ cls := "InsuredFlameModel", name := "feed", desc := "(IIIII)I" } : Jvm.MethodName)) ∈ lw_all := lw_g (lw_at lw_m6 11 rfl) rfl
theorem q1325 : (Jvm.Cond.selects "InsuredFlameModel" ({ cls := "InsuredFlameModel", name := "feed", desc := "(IIIII)I" } : Jvm.MethodName) ({ cls := "InsuredFlameModel", name := "feed", desc := "(IIIII)I" } : Jvm.MethodName)) ∈ lw_all := lw_g (lw_at lw_m6 12 rfl) rfl
theorem q1326 : (Jvm.Cond.code ({ cls := "InsuredFlameModel", name := "feed", desc := "(IIIII)I" } : Jvm.MethodName) prog_20_method_16_code (6 : Nat) (Option.some Jvm.ClassFile.FieldType.int)) ∈ lw_all := lw_g (lw_at lw_m6 13 rfl) rfl
theorem q1327 : (Jvm.Cond.methodLink "InsuredFlameModel" (121 : Nat) ({ cls := "InsuredFlameModel", name := "types", desc := "(I)V" } : Jvm.MethodName)) ∈ lw_all := lw_g (lw_at lw_m6 14 rfl) rfl
theorem q1328 : (Jvm.Cond.privateMethod ({ cls := "InsuredFlameModel", name := "types", desc := "(I)V" } : Jvm.MethodName)) ∈ lw_tbl := lw_at lw_m6 15 rfl
theorem q1329 : (Jvm.Cond.instanceMethod ({ cls := "InsuredFlameModel", name := "types", desc := "(I)V" } : Jvm.MethodName)) ∈ lw_all := lw_g (lw_at lw_m6 16 rfl) rfl
theorem q1330 : (Jvm.Cond.code ({ cls := "InsuredFlameModel", name := "types", desc := "(I)V" } : Jvm.MethodName) prog_20_method_15_code (3 : Nat) (Option.none : Option Jvm.ClassFile.FieldType)) ∈ lw_all := lw_g (lw_at lw_m6 17 rfl) rfl
theorem q1332 : (Jvm.Cond.instanceMethod ({ cls := "InsuredFlameModel", name := "law", desc := "(I)I" } : Jvm.MethodName)) ∈ lw_all := lw_g (lw_at lw_m6 19 rfl) rfl
theorem q1333 : (Jvm.Cond.selects "InsuredFlameModel" ({ cls := "InsuredFlameModel", name := "law", desc := "(I)I" } : Jvm.MethodName) ({ cls := "InsuredFlameModel", name := "law", desc := "(I)I" } : Jvm.MethodName)) ∈ lw_all := lw_g (lw_at lw_m6 20 rfl) rfl
theorem q1334 : (Jvm.Cond.code ({ cls := "InsuredFlameModel", name := "law", desc := "(I)I" } : Jvm.MethodName) prog_20_method_39_code (4 : Nat) (Option.some Jvm.ClassFile.FieldType.int)) ∈ lw_all := lw_g (lw_at lw_m6 21 rfl) rfl
theorem q1335 : (Jvm.Cond.methodLink "InsuredFlameModel" (102 : Nat) ({ cls := "InsuredFlameModel", name := "in", desc := "(III)Z" } : Jvm.MethodName)) ∈ lw_all := lw_g (lw_at lw_m6 22 rfl) rfl
theorem q1336 : (Jvm.Cond.static ({ cls := "InsuredFlameModel", name := "in", desc := "(III)Z" } : Jvm.MethodName)) ∈ lw_all := lw_g (lw_at lw_m6 23 rfl) rfl
theorem q1337 : (Jvm.Cond.code ({ cls := "InsuredFlameModel", name := "in", desc := "(III)Z" } : Jvm.MethodName) prog_20_method_2_code (3 : Nat) (Option.some Jvm.ClassFile.FieldType.boolean)) ∈ lw_all := lw_g (lw_at lw_m6 24 rfl) rfl
theorem q1338 : (Jvm.Cond.methodLink "InsuredFlameModel" (209 : Nat) ({ cls := "InsuredFlameModel", name := "beginsText", desc := "(I)V" } : Jvm.MethodName)) ∈ lw_all := lw_g (lw_at lw_m6 25 rfl) rfl
theorem q1339 : (Jvm.Cond.privateMethod ({ cls := "InsuredFlameModel", name := "beginsText", desc := "(I)V" } : Jvm.MethodName)) ∈ lw_tbl := lw_at lw_m6 26 rfl
theorem q1340 : (Jvm.Cond.instanceMethod ({ cls := "InsuredFlameModel", name := "beginsText", desc := "(I)V" } : Jvm.MethodName)) ∈ lw_all := lw_g (lw_at lw_m6 27 rfl) rfl
theorem q1341 : (Jvm.Cond.code ({ cls := "InsuredFlameModel", name := "beginsText", desc := "(I)V" } : Jvm.MethodName) prog_20_method_38_code (2 : Nat) (Option.none : Option Jvm.ClassFile.FieldType)) ∈ lw_all := lw_g (lw_at lw_m6 28 rfl) rfl
theorem q1342 : (Jvm.Cond.methodLink "InsuredFlameModel" (212 : Nat) ({ cls := "InsuredFlameModel", name := "readsRule", desc := "()Z" } : Jvm.MethodName)) ∈ lw_all := lw_g (lw_at lw_m6 29 rfl) rfl
theorem q1343 : (Jvm.Cond.privateMethod ({ cls := "InsuredFlameModel", name := "readsRule", desc := "()Z" } : Jvm.MethodName)) ∈ lw_tbl := lw_at lw_m6 30 rfl
theorem q1344 : (Jvm.Cond.instanceMethod ({ cls := "InsuredFlameModel", name := "readsRule", desc := "()Z" } : Jvm.MethodName)) ∈ lw_all := lw_g (lw_at lw_m6 31 rfl) rfl
theorem q1345 : (Jvm.Cond.code ({ cls := "InsuredFlameModel", name := "readsRule", desc := "()Z" } : Jvm.MethodName) prog_20_method_37_code (2 : Nat) (Option.some Jvm.ClassFile.FieldType.boolean)) ∈ lw_all := lw_g (lw_at lw_m6 32 rfl) rfl
theorem q1346 : (Jvm.Cond.methodLink "InsuredFlameModel" (131 : Nat) ({ cls := "InsuredFlameModel", name := "here", desc := "()I" } : Jvm.MethodName)) ∈ lw_all := lw_g (lw_at lw_m6 33 rfl) rfl
theorem q1347 : (Jvm.Cond.privateMethod ({ cls := "InsuredFlameModel", name := "here", desc := "()I" } : Jvm.MethodName)) ∈ lw_tbl := lw_at lw_m6 34 rfl
theorem q1348 : (Jvm.Cond.instanceMethod ({ cls := "InsuredFlameModel", name := "here", desc := "()I" } : Jvm.MethodName)) ∈ lw_all := lw_g (lw_at lw_m6 35 rfl) rfl
theorem q1349 : (Jvm.Cond.code ({ cls := "InsuredFlameModel", name := "here", desc := "()I" } : Jvm.MethodName) prog_20_method_18_code (1 : Nat) (Option.some Jvm.ClassFile.FieldType.int)) ∈ lw_all := lw_g (lw_at lw_m6 36 rfl) rfl
theorem q1350 : (Jvm.Cond.methodLink "InsuredFlameModel" (138 : Nat) ({ cls := "InsuredFlameModel", name := "wrongAt", desc := "(II)Z" } : Jvm.MethodName)) ∈ lw_all := lw_g (lw_at lw_m6 37 rfl) rfl
theorem q1351 : (Jvm.Cond.privateMethod ({ cls := "InsuredFlameModel", name := "wrongAt", desc := "(II)Z" } : Jvm.MethodName)) ∈ lw_tbl := lw_at lw_m6 38 rfl
theorem q1352 : (Jvm.Cond.instanceMethod ({ cls := "InsuredFlameModel", name := "wrongAt", desc := "(II)Z" } : Jvm.MethodName)) ∈ lw_all := lw_g (lw_at lw_m6 39 rfl) rfl
theorem q1353 : (Jvm.Cond.code ({ cls := "InsuredFlameModel", name := "wrongAt", desc := "(II)Z" } : Jvm.MethodName) prog_20_method_20_code (3 : Nat) (Option.some Jvm.ClassFile.FieldType.boolean)) ∈ lw_all := lw_g (lw_at lw_m6 40 rfl) rfl
theorem q1354 : (Jvm.Cond.methodLink "InsuredFlameModel" (188 : Nat) ({ cls := "InsuredFlameModel", name := "readsSum", desc := "()Z" } : Jvm.MethodName)) ∈ lw_all := lw_g (lw_at lw_m6 41 rfl) rfl
theorem q1355 : (Jvm.Cond.privateMethod ({ cls := "InsuredFlameModel", name := "readsSum", desc := "()Z" } : Jvm.MethodName)) ∈ lw_tbl := lw_at lw_m6 42 rfl
theorem q1356 : (Jvm.Cond.instanceMethod ({ cls := "InsuredFlameModel", name := "readsSum", desc := "()Z" } : Jvm.MethodName)) ∈ lw_all := lw_g (lw_at lw_m6 43 rfl) rfl
theorem q1357 : (Jvm.Cond.code ({ cls := "InsuredFlameModel", name := "readsSum", desc := "()Z" } : Jvm.MethodName) prog_20_method_31_code (3 : Nat) (Option.some Jvm.ClassFile.FieldType.boolean)) ∈ lw_all := lw_g (lw_at lw_m6 44 rfl) rfl
theorem q1358 : (Jvm.Cond.methodLink "InsuredFlameModel" (175 : Nat) ({ cls := "InsuredFlameModel", name := "readsFactor", desc := "()Z" } : Jvm.MethodName)) ∈ lw_all := lw_g (lw_at lw_m6 45 rfl) rfl
theorem q1359 : (Jvm.Cond.privateMethod ({ cls := "InsuredFlameModel", name := "readsFactor", desc := "()Z" } : Jvm.MethodName)) ∈ lw_tbl := lw_at lw_m6 46 rfl
theorem q1360 : (Jvm.Cond.instanceMethod ({ cls := "InsuredFlameModel", name := "readsFactor", desc := "()Z" } : Jvm.MethodName)) ∈ lw_all := lw_g (lw_at lw_m6 47 rfl) rfl
theorem q1361 : (Jvm.Cond.code ({ cls := "InsuredFlameModel", name := "readsFactor", desc := "()Z" } : Jvm.MethodName) prog_20_method_29_code (2 : Nat) (Option.some Jvm.ClassFile.FieldType.boolean)) ∈ lw_all := lw_g (lw_at lw_m6 48 rfl) rfl
theorem q1362 : (Jvm.Cond.methodLink "InsuredFlameModel" (165 : Nat) ({ cls := "InsuredFlameModel", name := "opens", desc := "(I)Z" } : Jvm.MethodName)) ∈ lw_all := lw_g (lw_at lw_m6 49 rfl) rfl
theorem q1363 : (Jvm.Cond.privateMethod ({ cls := "InsuredFlameModel", name := "opens", desc := "(I)Z" } : Jvm.MethodName)) ∈ lw_tbl := lw_at lw_m6 50 rfl
theorem q1364 : (Jvm.Cond.instanceMethod ({ cls := "InsuredFlameModel", name := "opens", desc := "(I)Z" } : Jvm.MethodName)) ∈ lw_all := lw_g (lw_at lw_m6 51 rfl) rfl
theorem q1365 : (Jvm.Cond.code ({ cls := "InsuredFlameModel", name := "opens", desc := "(I)Z" } : Jvm.MethodName) prog_20_method_24_code (2 : Nat) (Option.some Jvm.ClassFile.FieldType.boolean)) ∈ lw_all := lw_g (lw_at lw_m6 52 rfl) rfl
theorem q1366 : (Jvm.Cond.constant "InsuredFlameModel" (151 : Nat) (1048576 : Int32)) ∈ lw_all := lw_g (lw_at lw_m6 53 rfl) rfl
theorem q1367 : (Jvm.Cond.methodLink "InsuredFlameModel" (144 : Nat) ({ cls := "InsuredFlameModel", name := "isDigit", desc := "()Z" } : Jvm.MethodName)) ∈ lw_all := lw_g (lw_at lw_m6 54 rfl) rfl
theorem q1368 : (Jvm.Cond.privateMethod ({ cls := "InsuredFlameModel", name := "isDigit", desc := "()Z" } : Jvm.MethodName)) ∈ lw_tbl := lw_at lw_m6 55 rfl
theorem q1369 : (Jvm.Cond.instanceMethod ({ cls := "InsuredFlameModel", name := "isDigit", desc := "()Z" } : Jvm.MethodName)) ∈ lw_all := lw_g (lw_at lw_m6 56 rfl) rfl
theorem q1370 : (Jvm.Cond.code ({ cls := "InsuredFlameModel", name := "isDigit", desc := "()Z" } : Jvm.MethodName) prog_20_method_19_code (1 : Nat) (Option.some Jvm.ClassFile.FieldType.boolean)) ∈ lw_all := lw_g (lw_at lw_m6 57 rfl) rfl
theorem q1371 : (Jvm.Cond.methodLink "InsuredFlameModel" (168 : Nat) ({ cls := "InsuredFlameModel", name := "readsNumber", desc := "()Z" } : Jvm.MethodName)) ∈ lw_all := lw_g (lw_at lw_m6 58 rfl) rfl
theorem q1372 : (Jvm.Cond.privateMethod ({ cls := "InsuredFlameModel", name := "readsNumber", desc := "()Z" } : Jvm.MethodName)) ∈ lw_tbl := lw_at lw_m6 59 rfl
theorem q1373 : (Jvm.Cond.instanceMethod ({ cls := "InsuredFlameModel", name := "readsNumber", desc := "()Z" } : Jvm.MethodName)) ∈ lw_all := lw_g (lw_at lw_m6 60 rfl) rfl
theorem q1374 : (Jvm.Cond.code ({ cls := "InsuredFlameModel", name := "readsNumber", desc := "()Z" } : Jvm.MethodName) prog_20_method_22_code (2 : Nat) (Option.some Jvm.ClassFile.FieldType.boolean)) ∈ lw_all := lw_g (lw_at lw_m6 61 rfl) rfl
theorem q1375 : (Jvm.Cond.methodLink "InsuredFlameModel" (161 : Nat) ({ cls := "InsuredFlameModel", name := "notes", desc := "(II)V" } : Jvm.MethodName)) ∈ lw_all := lw_g (lw_at lw_m6 62 rfl) rfl
theorem q1376 : (Jvm.Cond.privateMethod ({ cls := "InsuredFlameModel", name := "notes", desc := "(II)V" } : Jvm.MethodName)) ∈ lw_tbl := lw_at lw_m6 63 rfl
theorem q1377 : (Jvm.Cond.instanceMethod ({ cls := "InsuredFlameModel", name := "notes", desc := "(II)V" } : Jvm.MethodName)) ∈ lw_all := lw_g (lw_at lw_m6 64 rfl) rfl
theorem q1378 : (Jvm.Cond.code ({ cls := "InsuredFlameModel", name := "notes", desc := "(II)V" } : Jvm.MethodName) prog_20_method_23_code (3 : Nat) (Option.none : Option Jvm.ClassFile.FieldType)) ∈ lw_all := lw_g (lw_at lw_m6 65 rfl) rfl
theorem q1379 : (Jvm.Cond.methodLink "InsuredFlameModel" (171 : Nat) ({ cls := "InsuredFlameModel", name := "factOf", desc := "(I)I" } : Jvm.MethodName)) ∈ lw_all := lw_g (lw_at lw_m6 66 rfl) rfl
theorem q1380 : (Jvm.Cond.static ({ cls := "InsuredFlameModel", name := "factOf", desc := "(I)I" } : Jvm.MethodName)) ∈ lw_all := lw_g (lw_at lw_m6 67 rfl) rfl
theorem q1381 : (Jvm.Cond.code ({ cls := "InsuredFlameModel", name := "factOf", desc := "(I)I" } : Jvm.MethodName) prog_20_method_26_code (1 : Nat) (Option.some Jvm.ClassFile.FieldType.int)) ∈ lw_all := lw_g (lw_at lw_m6 68 rfl) rfl
theorem q1382 : (Jvm.Cond.methodLink "InsuredFlameModel" (178 : Nat) ({ cls := "InsuredFlameModel", name := "sumSign", desc := "(I)I" } : Jvm.MethodName)) ∈ lw_all := lw_g (lw_at lw_m6 69 rfl) rfl
theorem q1383 : (Jvm.Cond.static ({ cls := "InsuredFlameModel", name := "sumSign", desc := "(I)I" } : Jvm.MethodName)) ∈ lw_all := lw_g (lw_at lw_m6 70 rfl) rfl
theorem q1384 : (Jvm.Cond.code ({ cls := "InsuredFlameModel", name := "sumSign", desc := "(I)I" } : Jvm.MethodName) prog_20_method_27_code (1 : Nat) (Option.some Jvm.ClassFile.FieldType.int)) ∈ lw_all := lw_g (lw_at lw_m6 71 rfl) rfl
theorem q1385 : (Jvm.Cond.methodLink "InsuredFlameModel" (181 : Nat) ({ cls := "InsuredFlameModel", name := "closesSums", desc := "(Z)V" } : Jvm.MethodName)) ∈ lw_all := lw_g (lw_at lw_m6 72 rfl) rfl
theorem q1386 : (Jvm.Cond.privateMethod ({ cls := "InsuredFlameModel", name := "closesSums", desc := "(Z)V" } : Jvm.MethodName)) ∈ lw_tbl := lw_at lw_m6 73 rfl
theorem q1387 : (Jvm.Cond.instanceMethod ({ cls := "InsuredFlameModel", name := "closesSums", desc := "(Z)V" } : Jvm.MethodName)) ∈ lw_all := lw_g (lw_at lw_m6 74 rfl) rfl
theorem q1388 : (Jvm.Cond.code ({ cls := "InsuredFlameModel", name := "closesSums", desc := "(Z)V" } : Jvm.MethodName) prog_20_method_28_code (2 : Nat) (Option.none : Option Jvm.ClassFile.FieldType)) ∈ lw_all := lw_g (lw_at lw_m6 75 rfl) rfl
theorem q1389 : (Jvm.Cond.methodLink "InsuredFlameModel" (158 : Nat) ({ cls := "InsuredFlameModel", name := "waitTop", desc := "()I" } : Jvm.MethodName)) ∈ lw_all := lw_g (lw_at lw_m6 76 rfl) rfl
theorem q1390 : (Jvm.Cond.privateMethod ({ cls := "InsuredFlameModel", name := "waitTop", desc := "()I" } : Jvm.MethodName)) ∈ lw_tbl := lw_at lw_m6 77 rfl
theorem q1391 : (Jvm.Cond.instanceMethod ({ cls := "InsuredFlameModel", name := "waitTop", desc := "()I" } : Jvm.MethodName)) ∈ lw_all := lw_g (lw_at lw_m6 78 rfl) rfl
theorem q1392 : (Jvm.Cond.code ({ cls := "InsuredFlameModel", name := "waitTop", desc := "()I" } : Jvm.MethodName) prog_20_method_25_code (1 : Nat) (Option.some Jvm.ClassFile.FieldType.int)) ∈ lw_all := lw_g (lw_at lw_m6 79 rfl) rfl
theorem q1393 : (Jvm.Cond.methodLink "InsuredFlameModel" (185 : Nat) ({ cls := "InsuredFlameModel", name := "hasOpenSum", desc := "(I)Z" } : Jvm.MethodName)) ∈ lw_all := lw_g (lw_at lw_m6 80 rfl) rfl
theorem q1394 : (Jvm.Cond.privateMethod ({ cls := "InsuredFlameModel", name := "hasOpenSum", desc := "(I)Z" } : Jvm.MethodName)) ∈ lw_tbl := lw_at lw_m6 81 rfl
theorem q1395 : (Jvm.Cond.instanceMethod ({ cls := "InsuredFlameModel", name := "hasOpenSum", desc := "(I)Z" } : Jvm.MethodName)) ∈ lw_all := lw_g (lw_at lw_m6 82 rfl) rfl
theorem q1396 : (Jvm.Cond.code ({ cls := "InsuredFlameModel", name := "hasOpenSum", desc := "(I)Z" } : Jvm.MethodName) prog_20_method_30_code (3 : Nat) (Option.some Jvm.ClassFile.FieldType.boolean)) ∈ lw_all := lw_g (lw_at lw_m6 83 rfl) rfl
theorem q1397 : (Jvm.Cond.methodLink "InsuredFlameModel" (206 : Nat) ({ cls := "InsuredFlameModel", name := "readsCondition", desc := "()Z" } : Jvm.MethodName)) ∈ lw_all := lw_g (lw_at lw_m6 84 rfl) rfl
theorem q1398 : (Jvm.Cond.privateMethod ({ cls := "InsuredFlameModel", name := "readsCondition", desc := "()Z" } : Jvm.MethodName)) ∈ lw_tbl := lw_at lw_m6 85 rfl
theorem q1399 : (Jvm.Cond.instanceMethod ({ cls := "InsuredFlameModel", name := "readsCondition", desc := "()Z" } : Jvm.MethodName)) ∈ lw_all := lw_g (lw_at lw_m6 86 rfl) rfl
theorem q1400 : (Jvm.Cond.code ({ cls := "InsuredFlameModel", name := "readsCondition", desc := "()Z" } : Jvm.MethodName) prog_20_method_36_code (1 : Nat) (Option.some Jvm.ClassFile.FieldType.boolean)) ∈ lw_all := lw_g (lw_at lw_m6 87 rfl) rfl
theorem q1401 : (Jvm.Cond.methodLink "InsuredFlameModel" (194 : Nat) ({ cls := "InsuredFlameModel", name := "readsCompared", desc := "()Z" } : Jvm.MethodName)) ∈ lw_all := lw_g (lw_at lw_m6 88 rfl) rfl
theorem q1402 : (Jvm.Cond.privateMethod ({ cls := "InsuredFlameModel", name := "readsCompared", desc := "()Z" } : Jvm.MethodName)) ∈ lw_tbl := lw_at lw_m6 89 rfl
theorem q1403 : (Jvm.Cond.instanceMethod ({ cls := "InsuredFlameModel", name := "readsCompared", desc := "()Z" } : Jvm.MethodName)) ∈ lw_all := lw_g (lw_at lw_m6 90 rfl) rfl
theorem q1404 : (Jvm.Cond.code ({ cls := "InsuredFlameModel", name := "readsCompared", desc := "()Z" } : Jvm.MethodName) prog_20_method_35_code (2 : Nat) (Option.some Jvm.ClassFile.FieldType.boolean)) ∈ lw_all := lw_g (lw_at lw_m6 91 rfl) rfl
theorem q1405 : (Jvm.Cond.methodLink "InsuredFlameModel" (191 : Nat) ({ cls := "InsuredFlameModel", name := "endsPiece", desc := "()V" } : Jvm.MethodName)) ∈ lw_all := lw_g (lw_at lw_m6 92 rfl) rfl
theorem q1406 : (Jvm.Cond.privateMethod ({ cls := "InsuredFlameModel", name := "endsPiece", desc := "()V" } : Jvm.MethodName)) ∈ lw_tbl := lw_at lw_m6 93 rfl
theorem q1407 : (Jvm.Cond.instanceMethod ({ cls := "InsuredFlameModel", name := "endsPiece", desc := "()V" } : Jvm.MethodName)) ∈ lw_all := lw_g (lw_at lw_m6 94 rfl) rfl
theorem q1408 : (Jvm.Cond.code ({ cls := "InsuredFlameModel", name := "endsPiece", desc := "()V" } : Jvm.MethodName) prog_20_method_32_code (1 : Nat) (Option.none : Option Jvm.ClassFile.FieldType)) ∈ lw_all := lw_g (lw_at lw_m6 95 rfl) rfl
theorem q1409 : (Jvm.Cond.methodLink "InsuredFlameModel" (197 : Nat) ({ cls := "InsuredFlameModel", name := "lands", desc := "(Z)V" } : Jvm.MethodName)) ∈ lw_all := lw_g (lw_at lw_m6 96 rfl) rfl
theorem q1410 : (Jvm.Cond.privateMethod ({ cls := "InsuredFlameModel", name := "lands", desc := "(Z)V" } : Jvm.MethodName)) ∈ lw_tbl := lw_at lw_m6 97 rfl
theorem q1411 : (Jvm.Cond.instanceMethod ({ cls := "InsuredFlameModel", name := "lands", desc := "(Z)V" } : Jvm.MethodName)) ∈ lw_all := lw_g (lw_at lw_m6 98 rfl) rfl
theorem q1412 : (Jvm.Cond.code ({ cls := "InsuredFlameModel", name := "lands", desc := "(Z)V" } : Jvm.MethodName) prog_20_method_33_code (3 : Nat) (Option.none : Option Jvm.ClassFile.FieldType)) ∈ lw_all := lw_g (lw_at lw_m6 99 rfl) rfl
theorem q1413 : (Jvm.Cond.methodLink "InsuredFlameModel" (200 : Nat) ({ cls := "InsuredFlameModel", name := "jumps", desc := "(I)V" } : Jvm.MethodName)) ∈ lw_all := lw_g (lw_at lw_m6 100 rfl) rfl
theorem q1414 : (Jvm.Cond.privateMethod ({ cls := "InsuredFlameModel", name := "jumps", desc := "(I)V" } : Jvm.MethodName)) ∈ lw_tbl := lw_at lw_m6 101 rfl
theorem q1415 : (Jvm.Cond.instanceMethod ({ cls := "InsuredFlameModel", name := "jumps", desc := "(I)V" } : Jvm.MethodName)) ∈ lw_all := lw_g (lw_at lw_m6 102 rfl) rfl
theorem q1416 : (Jvm.Cond.code ({ cls := "InsuredFlameModel", name := "jumps", desc := "(I)V" } : Jvm.MethodName) prog_20_method_34_code (2 : Nat) (Option.none : Option Jvm.ClassFile.FieldType)) ∈ lw_all := lw_g (lw_at lw_m6 103 rfl) rfl
theorem q1417 : (Jvm.Cond.methodLink "InsuredFlameModel" (215 : Nat) ({ cls := "InsuredFlameModel", name := "takes", desc := "(I)Z" } : Jvm.MethodName)) ∈ lw_all := lw_g (lw_at lw_m6 104 rfl) rfl
theorem q1418 : (Jvm.Cond.privateMethod ({ cls := "InsuredFlameModel", name := "takes", desc := "(I)Z" } : Jvm.MethodName)) ∈ lw_tbl := lw_at lw_m6 105 rfl
theorem q1419 : (Jvm.Cond.instanceMethod ({ cls := "InsuredFlameModel", name := "takes", desc := "(I)Z" } : Jvm.MethodName)) ∈ lw_all := lw_g (lw_at lw_m6 106 rfl) rfl
theorem q1420 : (Jvm.Cond.code ({ cls := "InsuredFlameModel", name := "takes", desc := "(I)Z" } : Jvm.MethodName) prog_20_method_21_code (2 : Nat) (Option.some Jvm.ClassFile.FieldType.boolean)) ∈ lw_all := lw_g (lw_at lw_m6 107 rfl) rfl
theorem q1422 : (Jvm.Cond.instanceMethod ({ cls := "InsuredFlameModel", name := "town", desc := "(I)I" } : Jvm.MethodName)) ∈ lw_all := lw_g (lw_at lw_m6 109 rfl) rfl
theorem q1423 : (Jvm.Cond.selects "InsuredFlameModel" ({ cls := "InsuredFlameModel", name := "town", desc := "(I)I" } : Jvm.MethodName) ({ cls := "InsuredFlameModel", name := "town", desc := "(I)I" } : Jvm.MethodName)) ∈ lw_all := lw_g (lw_at lw_m6 110 rfl) rfl
theorem q1424 : (Jvm.Cond.code ({ cls := "InsuredFlameModel", name := "town", desc := "(I)I" } : Jvm.MethodName) prog_20_method_47_code (6 : Nat) (Option.some Jvm.ClassFile.FieldType.int)) ∈ lw_all := lw_g (lw_at lw_m6 111 rfl) rfl
theorem q1425 : (Jvm.Cond.methodLink "InsuredFlameModel" (235 : Nat) ({ cls := "InsuredFlameModel", name := "readsRow", desc := "(I)Z" } : Jvm.MethodName)) ∈ lw_all := lw_g (lw_at lw_m6 112 rfl) rfl
theorem q1426 : (Jvm.Cond.privateMethod ({ cls := "InsuredFlameModel", name := "readsRow", desc := "(I)Z" } : Jvm.MethodName)) ∈ lw_tbl := lw_at lw_m6 113 rfl
theorem q1427 : (Jvm.Cond.instanceMethod ({ cls := "InsuredFlameModel", name := "readsRow", desc := "(I)Z" } : Jvm.MethodName)) ∈ lw_all := lw_g (lw_at lw_m6 114 rfl) rfl
theorem q1428 : (Jvm.Cond.code ({ cls := "InsuredFlameModel", name := "readsRow", desc := "(I)Z" } : Jvm.MethodName) prog_20_method_46_code (8 : Nat) (Option.some Jvm.ClassFile.FieldType.boolean)) ∈ lw_all := lw_g (lw_at lw_m6 115 rfl) rfl
theorem q1429 : (Jvm.Cond.methodLink "InsuredFlameModel" (232 : Nat) ({ cls := "InsuredFlameModel", name := "canBeginRow", desc := "()Z" } : Jvm.MethodName)) ∈ lw_all := lw_g (lw_at lw_m6 116 rfl) rfl
theorem q1430 : (Jvm.Cond.privateMethod ({ cls := "InsuredFlameModel", name := "canBeginRow", desc := "()Z" } : Jvm.MethodName)) ∈ lw_tbl := lw_at lw_m6 117 rfl
theorem q1431 : (Jvm.Cond.instanceMethod ({ cls := "InsuredFlameModel", name := "canBeginRow", desc := "()Z" } : Jvm.MethodName)) ∈ lw_all := lw_g (lw_at lw_m6 118 rfl) rfl
theorem q1432 : (Jvm.Cond.code ({ cls := "InsuredFlameModel", name := "canBeginRow", desc := "()Z" } : Jvm.MethodName) prog_20_method_45_code (1 : Nat) (Option.some Jvm.ClassFile.FieldType.boolean)) ∈ lw_all := lw_g (lw_at lw_m6 119 rfl) rfl
theorem q1433 : (Jvm.Cond.methodLink "InsuredFlameModel" (229 : Nat) ({ cls := "InsuredFlameModel", name := "kindBy", desc := "(I)I" } : Jvm.MethodName)) ∈ lw_all := lw_g (lw_at lw_m6 120 rfl) rfl
theorem q1434 : (Jvm.Cond.static ({ cls := "InsuredFlameModel", name := "kindBy", desc := "(I)I" } : Jvm.MethodName)) ∈ lw_all := lw_g (lw_at lw_m6 121 rfl) rfl
theorem q1435 : (Jvm.Cond.code ({ cls := "InsuredFlameModel", name := "kindBy", desc := "(I)I" } : Jvm.MethodName) prog_20_method_44_code (1 : Nat) (Option.some Jvm.ClassFile.FieldType.int)) ∈ lw_all := lw_g (lw_at lw_m6 122 rfl) rfl
theorem q1436 : (Jvm.Cond.methodLink "InsuredFlameModel" (238 : Nat) ({ cls := "InsuredFlameModel", name := "becomesWhole", desc := "(I)V" } : Jvm.MethodName)) ∈ lw_all := lw_g (lw_at lw_m6 123 rfl) rfl
theorem q1437 : (Jvm.Cond.privateMethod ({ cls := "InsuredFlameModel", name := "becomesWhole", desc := "(I)V" } : Jvm.MethodName)) ∈ lw_tbl := lw_at lw_m6 124 rfl
theorem q1438 : (Jvm.Cond.instanceMethod ({ cls := "InsuredFlameModel", name := "becomesWhole", desc := "(I)V" } : Jvm.MethodName)) ∈ lw_all := lw_g (lw_at lw_m6 125 rfl) rfl
theorem q1439 : (Jvm.Cond.code ({ cls := "InsuredFlameModel", name := "becomesWhole", desc := "(I)V" } : Jvm.MethodName) prog_20_method_48_code (2 : Nat) (Option.none : Option Jvm.ClassFile.FieldType)) ∈ lw_all := lw_g (lw_at lw_m6 126 rfl) rfl
theorem q1440 : (Jvm.Cond.methodLink "InsuredFlameModel" (241 : Nat) ({ cls := "InsuredFlameModel", name := "isWood", desc := "(I)Z" } : Jvm.MethodName)) ∈ lw_all := lw_g (lw_at lw_m6 127 rfl) rfl
theorem q1441 : (Jvm.Cond.privateMethod ({ cls := "InsuredFlameModel", name := "isWood", desc := "(I)Z" } : Jvm.MethodName)) ∈ lw_tbl := lw_at lw_m6 128 rfl
theorem q1442 : (Jvm.Cond.instanceMethod ({ cls := "InsuredFlameModel", name := "isWood", desc := "(I)Z" } : Jvm.MethodName)) ∈ lw_all := lw_g (lw_at lw_m6 129 rfl) rfl
theorem q1443 : (Jvm.Cond.code ({ cls := "InsuredFlameModel", name := "isWood", desc := "(I)Z" } : Jvm.MethodName) prog_20_method_12_code (2 : Nat) (Option.some Jvm.ClassFile.FieldType.boolean)) ∈ lw_all := lw_g (lw_at lw_m6 130 rfl) rfl
theorem q1444 : (Jvm.Cond.methodLink "InsuredFlameModel" (110 : Nat) ({ cls := "InsuredFlameModel", name := "isPlace", desc := "(I)Z" } : Jvm.MethodName)) ∈ lw_all := lw_g (lw_at lw_m6 131 rfl) rfl
theorem q1445 : (Jvm.Cond.static ({ cls := "InsuredFlameModel", name := "isPlace", desc := "(I)Z" } : Jvm.MethodName)) ∈ lw_all := lw_g (lw_at lw_m6 132 rfl) rfl
theorem q1446 : (Jvm.Cond.code ({ cls := "InsuredFlameModel", name := "isPlace", desc := "(I)Z" } : Jvm.MethodName) prog_20_method_9_code (1 : Nat) (Option.some Jvm.ClassFile.FieldType.boolean)) ∈ lw_all := lw_g (lw_at lw_m6 133 rfl) rfl
theorem q1448 : (Jvm.Cond.instanceMethod ({ cls := "InsuredFlameModel", name := "orders", desc := "(I)I" } : Jvm.MethodName)) ∈ lw_all := lw_g (lw_at lw_m6 135 rfl) rfl
theorem q1449 : (Jvm.Cond.selects "InsuredFlameModel" ({ cls := "InsuredFlameModel", name := "orders", desc := "(I)I" } : Jvm.MethodName) ({ cls := "InsuredFlameModel", name := "orders", desc := "(I)I" } : Jvm.MethodName)) ∈ lw_all := lw_g (lw_at lw_m6 136 rfl) rfl
theorem q1450 : (Jvm.Cond.code ({ cls := "InsuredFlameModel", name := "orders", desc := "(I)I" } : Jvm.MethodName) prog_20_method_56_code (4 : Nat) (Option.some Jvm.ClassFile.FieldType.int)) ∈ lw_all := lw_g (lw_at lw_m6 137 rfl) rfl
theorem q1451 : (Jvm.Cond.methodLink "InsuredFlameModel" (271 : Nat) ({ cls := "InsuredFlameModel", name := "copies", desc := "([I[I)V" } : Jvm.MethodName)) ∈ lw_all := lw_g (lw_at lw_m6 138 rfl) rfl
theorem q1452 : (Jvm.Cond.static ({ cls := "InsuredFlameModel", name := "copies", desc := "([I[I)V" } : Jvm.MethodName)) ∈ lw_all := lw_g (lw_at lw_m6 139 rfl) rfl
theorem q1453 : (Jvm.Cond.code ({ cls := "InsuredFlameModel", name := "copies", desc := "([I[I)V" } : Jvm.MethodName) prog_20_method_8_code (3 : Nat) (Option.none : Option Jvm.ClassFile.FieldType)) ∈ lw_all := lw_g (lw_at lw_m6 140 rfl) rfl
theorem q1454 : (Jvm.Cond.methodLink "InsuredFlameModel" (275 : Nat) ({ cls := "InsuredFlameModel", name := "readsLine", desc := "()Z" } : Jvm.MethodName)) ∈ lw_all := lw_g (lw_at lw_m6 141 rfl) rfl
theorem q1455 : (Jvm.Cond.privateMethod ({ cls := "InsuredFlameModel", name := "readsLine", desc := "()Z" } : Jvm.MethodName)) ∈ lw_tbl := lw_at lw_m6 142 rfl
theorem q1456 : (Jvm.Cond.instanceMethod ({ cls := "InsuredFlameModel", name := "readsLine", desc := "()Z" } : Jvm.MethodName)) ∈ lw_all := lw_g (lw_at lw_m6 143 rfl) rfl
theorem q1457 : (Jvm.Cond.code ({ cls := "InsuredFlameModel", name := "readsLine", desc := "()Z" } : Jvm.MethodName) prog_20_method_55_code (2 : Nat) (Option.some Jvm.ClassFile.FieldType.boolean)) ∈ lw_all := lw_g (lw_at lw_m6 144 rfl) rfl
theorem q1458 : (Jvm.Cond.methodLink "InsuredFlameModel" (259 : Nat) ({ cls := "InsuredFlameModel", name := "readsThing", desc := "()Z" } : Jvm.MethodName)) ∈ lw_all := lw_g (lw_at lw_m6 145 rfl) rfl
theorem q1459 : (Jvm.Cond.privateMethod ({ cls := "InsuredFlameModel", name := "readsThing", desc := "()Z" } : Jvm.MethodName)) ∈ lw_tbl := lw_at lw_m6 146 rfl
theorem q1460 : (Jvm.Cond.instanceMethod ({ cls := "InsuredFlameModel", name := "readsThing", desc := "()Z" } : Jvm.MethodName)) ∈ lw_all := lw_g (lw_at lw_m6 147 rfl) rfl
theorem q1461 : (Jvm.Cond.code ({ cls := "InsuredFlameModel", name := "readsThing", desc := "()Z" } : Jvm.MethodName) prog_20_method_51_code (4 : Nat) (Option.some Jvm.ClassFile.FieldType.boolean)) ∈ lw_all := lw_g (lw_at lw_m6 148 rfl) rfl
theorem q1462 : (Jvm.Cond.methodLink "InsuredFlameModel" (247 : Nat) ({ cls := "InsuredFlameModel", name := "readsWithin", desc := "(I)Z" } : Jvm.MethodName)) ∈ lw_all := lw_g (lw_at lw_m6 149 rfl) rfl
theorem q1463 : (Jvm.Cond.privateMethod ({ cls := "InsuredFlameModel", name := "readsWithin", desc := "(I)Z" } : Jvm.MethodName)) ∈ lw_tbl := lw_at lw_m6 150 rfl
theorem q1464 : (Jvm.Cond.instanceMethod ({ cls := "InsuredFlameModel", name := "readsWithin", desc := "(I)Z" } : Jvm.MethodName)) ∈ lw_all := lw_g (lw_at lw_m6 151 rfl) rfl
theorem q1465 : (Jvm.Cond.code ({ cls := "InsuredFlameModel", name := "readsWithin", desc := "(I)Z" } : Jvm.MethodName) prog_20_method_49_code (3 : Nat) (Option.some Jvm.ClassFile.FieldType.boolean)) ∈ lw_all := lw_g (lw_at lw_m6 152 rfl) rfl
theorem q1466 : (Jvm.Cond.methodLink "InsuredFlameModel" (114 : Nat) ({ cls := "InsuredFlameModel", name := "isThing", desc := "(I)Z" } : Jvm.MethodName)) ∈ lw_all := lw_g (lw_at lw_m6 153 rfl) rfl
theorem q1467 : (Jvm.Cond.privateMethod ({ cls := "InsuredFlameModel", name := "isThing", desc := "(I)Z" } : Jvm.MethodName)) ∈ lw_tbl := lw_at lw_m6 154 rfl
theorem q1468 : (Jvm.Cond.instanceMethod ({ cls := "InsuredFlameModel", name := "isThing", desc := "(I)Z" } : Jvm.MethodName)) ∈ lw_all := lw_g (lw_at lw_m6 155 rfl) rfl
theorem q1469 : (Jvm.Cond.code ({ cls := "InsuredFlameModel", name := "isThing", desc := "(I)Z" } : Jvm.MethodName) prog_20_method_13_code (2 : Nat) (Option.some Jvm.ClassFile.FieldType.boolean)) ∈ lw_all := lw_g (lw_at lw_m6 156 rfl) rfl
theorem q1470 : (Jvm.Cond.methodLink "InsuredFlameModel" (253 : Nat) ({ cls := "InsuredFlameModel", name := "readsSpot", desc := "()Z" } : Jvm.MethodName)) ∈ lw_all := lw_g (lw_at lw_m6 157 rfl) rfl
theorem q1471 : (Jvm.Cond.privateMethod ({ cls := "InsuredFlameModel", name := "readsSpot", desc := "()Z" } : Jvm.MethodName)) ∈ lw_tbl := lw_at lw_m6 158 rfl
theorem q1472 : (Jvm.Cond.instanceMethod ({ cls := "InsuredFlameModel", name := "readsSpot", desc := "()Z" } : Jvm.MethodName)) ∈ lw_all := lw_g (lw_at lw_m6 159 rfl) rfl
theorem q1473 : (Jvm.Cond.code ({ cls := "InsuredFlameModel", name := "readsSpot", desc := "()Z" } : Jvm.MethodName) prog_20_method_50_code (2 : Nat) (Option.some Jvm.ClassFile.FieldType.boolean)) ∈ lw_all := lw_g (lw_at lw_m6 160 rfl) rfl
theorem q1474 : (Jvm.Cond.methodLink "InsuredFlameModel" (262 : Nat) ({ cls := "InsuredFlameModel", name := "readsFire", desc := "()Z" } : Jvm.MethodName)) ∈ lw_all := lw_g (lw_at lw_m6 161 rfl) rfl
theorem q1475 : (Jvm.Cond.privateMethod ({ cls := "InsuredFlameModel", name := "readsFire", desc := "()Z" } : Jvm.MethodName)) ∈ lw_tbl := lw_at lw_m6 162 rfl
theorem q1476 : (Jvm.Cond.instanceMethod ({ cls := "InsuredFlameModel", name := "readsFire", desc := "()Z" } : Jvm.MethodName)) ∈ lw_all := lw_g (lw_at lw_m6 163 rfl) rfl
theorem q1477 : (Jvm.Cond.code ({ cls := "InsuredFlameModel", name := "readsFire", desc := "()Z" } : Jvm.MethodName) prog_20_method_52_code (1 : Nat) (Option.some Jvm.ClassFile.FieldType.boolean)) ∈ lw_all := lw_g (lw_at lw_m6 164 rfl) rfl
theorem q1478 : (Jvm.Cond.methodLink "InsuredFlameModel" (265 : Nat) ({ cls := "InsuredFlameModel", name := "readsWater", desc := "()Z" } : Jvm.MethodName)) ∈ lw_all := lw_g (lw_at lw_m6 165 rfl) rfl
theorem q1479 : (Jvm.Cond.privateMethod ({ cls := "InsuredFlameModel", name := "readsWater", desc := "()Z" } : Jvm.MethodName)) ∈ lw_tbl := lw_at lw_m6 166 rfl
theorem q1480 : (Jvm.Cond.instanceMethod ({ cls := "InsuredFlameModel", name := "readsWater", desc := "()Z" } : Jvm.MethodName)) ∈ lw_all := lw_g (lw_at lw_m6 167 rfl) rfl
theorem q1481 : (Jvm.Cond.code ({ cls := "InsuredFlameModel", name := "readsWater", desc := "()Z" } : Jvm.MethodName) prog_20_method_53_code (1 : Nat) (Option.some Jvm.ClassFile.FieldType.boolean)) ∈ lw_all := lw_g (lw_at lw_m6 168 rfl) rfl
theorem q1482 : (Jvm.Cond.methodLink "InsuredFlameModel" (268 : Nat) ({ cls := "InsuredFlameModel", name := "readsWind", desc := "()Z" } : Jvm.MethodName)) ∈ lw_all := lw_g (lw_at lw_m6 169 rfl) rfl
theorem q1483 : (Jvm.Cond.privateMethod ({ cls := "InsuredFlameModel", name := "readsWind", desc := "()Z" } : Jvm.MethodName)) ∈ lw_tbl := lw_at lw_m6 170 rfl
theorem q1484 : (Jvm.Cond.instanceMethod ({ cls := "InsuredFlameModel", name := "readsWind", desc := "()Z" } : Jvm.MethodName)) ∈ lw_all := lw_g (lw_at lw_m6 171 rfl) rfl
theorem q1485 : (Jvm.Cond.code ({ cls := "InsuredFlameModel", name := "readsWind", desc := "()Z" } : Jvm.MethodName) prog_20_method_54_code (1 : Nat) (Option.some Jvm.ClassFile.FieldType.boolean)) ∈ lw_all := lw_g (lw_at lw_m6 172 rfl) rfl
theorem q1487 : (Jvm.Cond.instanceMethod ({ cls := "InsuredFlameModel", name := "minutes", desc := "(I)I" } : Jvm.MethodName)) ∈ lw_all := lw_g (lw_at lw_m6 174 rfl) rfl
theorem q1488 : (Jvm.Cond.selects "InsuredFlameModel" ({ cls := "InsuredFlameModel", name := "minutes", desc := "(I)I" } : Jvm.MethodName) ({ cls := "InsuredFlameModel", name := "minutes", desc := "(I)I" } : Jvm.MethodName)) ∈ lw_all := lw_g (lw_at lw_m6 175 rfl) rfl
theorem q1489 : (Jvm.Cond.code ({ cls := "InsuredFlameModel", name := "minutes", desc := "(I)I" } : Jvm.MethodName) prog_20_method_68_code (2 : Nat) (Option.some Jvm.ClassFile.FieldType.int)) ∈ lw_all := lw_g (lw_at lw_m6 176 rfl) rfl
theorem q1490 : (Jvm.Cond.methodLink "InsuredFlameModel" (322 : Nat) ({ cls := "InsuredFlameModel", name := "minutesGo", desc := "(I)V" } : Jvm.MethodName)) ∈ lw_all := lw_g (lw_at lw_m6 177 rfl) rfl
theorem q1491 : (Jvm.Cond.privateMethod ({ cls := "InsuredFlameModel", name := "minutesGo", desc := "(I)V" } : Jvm.MethodName)) ∈ lw_tbl := lw_at lw_m6 178 rfl
theorem q1492 : (Jvm.Cond.instanceMethod ({ cls := "InsuredFlameModel", name := "minutesGo", desc := "(I)V" } : Jvm.MethodName)) ∈ lw_all := lw_g (lw_at lw_m6 179 rfl) rfl
theorem q1493 : (Jvm.Cond.code ({ cls := "InsuredFlameModel", name := "minutesGo", desc := "(I)V" } : Jvm.MethodName) prog_20_method_66_code (3 : Nat) (Option.none : Option Jvm.ClassFile.FieldType)) ∈ lw_all := lw_g (lw_at lw_m6 180 rfl) rfl
theorem q1494 : (Jvm.Cond.methodLink "InsuredFlameModel" (319 : Nat) ({ cls := "InsuredFlameModel", name := "minuteGoes", desc := "()V" } : Jvm.MethodName)) ∈ lw_all := lw_g (lw_at lw_m6 181 rfl) rfl
theorem q1495 : (Jvm.Cond.privateMethod ({ cls := "InsuredFlameModel", name := "minuteGoes", desc := "()V" } : Jvm.MethodName)) ∈ lw_tbl := lw_at lw_m6 182 rfl
theorem q1496 : (Jvm.Cond.instanceMethod ({ cls := "InsuredFlameModel", name := "minuteGoes", desc := "()V" } : Jvm.MethodName)) ∈ lw_all := lw_g (lw_at lw_m6 183 rfl) rfl
theorem q1497 : (Jvm.Cond.code ({ cls := "InsuredFlameModel", name := "minuteGoes", desc := "()V" } : Jvm.MethodName) prog_20_method_65_code (2 : Nat) (Option.none : Option Jvm.ClassFile.FieldType)) ∈ lw_all := lw_g (lw_at lw_m6 184 rfl) rfl
theorem q1498 : (Jvm.Cond.methodLink "InsuredFlameModel" (316 : Nat) ({ cls := "InsuredFlameModel", name := "turnOf", desc := "(I)V" } : Jvm.MethodName)) ∈ lw_all := lw_g (lw_at lw_m6 185 rfl) rfl
theorem q1499 : (Jvm.Cond.privateMethod ({ cls := "InsuredFlameModel", name := "turnOf", desc := "(I)V" } : Jvm.MethodName)) ∈ lw_tbl := lw_at lw_m6 186 rfl
theorem q1500 : (Jvm.Cond.instanceMethod ({ cls := "InsuredFlameModel", name := "turnOf", desc := "(I)V" } : Jvm.MethodName)) ∈ lw_all := lw_g (lw_at lw_m6 187 rfl) rfl
theorem q1501 : (Jvm.Cond.code ({ cls := "InsuredFlameModel", name := "turnOf", desc := "(I)V" } : Jvm.MethodName) prog_20_method_64_code (3 : Nat) (Option.none : Option Jvm.ClassFile.FieldType)) ∈ lw_all := lw_g (lw_at lw_m6 188 rfl) rfl
theorem q1502 : (Jvm.Cond.methodLink "InsuredFlameModel" (307 : Nat) ({ cls := "InsuredFlameModel", name := "takesThings", desc := "(I)V" } : Jvm.MethodName)) ∈ lw_all := lw_g (lw_at lw_m6 189 rfl) rfl
theorem q1503 : (Jvm.Cond.privateMethod ({ cls := "InsuredFlameModel", name := "takesThings", desc := "(I)V" } : Jvm.MethodName)) ∈ lw_tbl := lw_at lw_m6 190 rfl
theorem q1504 : (Jvm.Cond.instanceMethod ({ cls := "InsuredFlameModel", name := "takesThings", desc := "(I)V" } : Jvm.MethodName)) ∈ lw_all := lw_g (lw_at lw_m6 191 rfl) rfl
theorem q1505 : (Jvm.Cond.code ({ cls := "InsuredFlameModel", name := "takesThings", desc := "(I)V" } : Jvm.MethodName) prog_20_method_62_code (3 : Nat) (Option.none : Option Jvm.ClassFile.FieldType)) ∈ lw_all := lw_g (lw_at lw_m6 192 rfl) rfl
theorem q1506 : (Jvm.Cond.methodLink "InsuredFlameModel" (278 : Nat) ({ cls := "InsuredFlameModel", name := "liesAt", desc := "(II)Z" } : Jvm.MethodName)) ∈ lw_all := lw_g (lw_at lw_m6 193 rfl) rfl
theorem q1507 : (Jvm.Cond.privateMethod ({ cls := "InsuredFlameModel", name := "liesAt", desc := "(II)Z" } : Jvm.MethodName)) ∈ lw_tbl := lw_at lw_m6 194 rfl
theorem q1508 : (Jvm.Cond.instanceMethod ({ cls := "InsuredFlameModel", name := "liesAt", desc := "(II)Z" } : Jvm.MethodName)) ∈ lw_all := lw_g (lw_at lw_m6 195 rfl) rfl
theorem q1509 : (Jvm.Cond.code ({ cls := "InsuredFlameModel", name := "liesAt", desc := "(II)Z" } : Jvm.MethodName) prog_20_method_14_code (3 : Nat) (Option.some Jvm.ClassFile.FieldType.boolean)) ∈ lw_all := lw_g (lw_at lw_m6 196 rfl) rfl
theorem q1510 : (Jvm.Cond.methodLink "InsuredFlameModel" (310 : Nat) ({ cls := "InsuredFlameModel", name := "goesOver", desc := "(II)V" } : Jvm.MethodName)) ∈ lw_all := lw_g (lw_at lw_m6 197 rfl) rfl
theorem q1511 : (Jvm.Cond.privateMethod ({ cls := "InsuredFlameModel", name := "goesOver", desc := "(II)V" } : Jvm.MethodName)) ∈ lw_tbl := lw_at lw_m6 198 rfl
theorem q1512 : (Jvm.Cond.instanceMethod ({ cls := "InsuredFlameModel", name := "goesOver", desc := "(II)V" } : Jvm.MethodName)) ∈ lw_all := lw_g (lw_at lw_m6 199 rfl) rfl
theorem q1513 : (Jvm.Cond.code ({ cls := "InsuredFlameModel", name := "goesOver", desc := "(II)V" } : Jvm.MethodName) prog_20_method_63_code (5 : Nat) (Option.none : Option Jvm.ClassFile.FieldType)) ∈ lw_all := lw_g (lw_at lw_m6 200 rfl) rfl
theorem q1514 : (Jvm.Cond.methodLink "InsuredFlameModel" (281 : Nat) ({ cls := "InsuredFlameModel", name := "beside", desc := "(II)I" } : Jvm.MethodName)) ∈ lw_all := lw_g (lw_at lw_m6 201 rfl) rfl
theorem q1515 : (Jvm.Cond.static ({ cls := "InsuredFlameModel", name := "beside", desc := "(II)I" } : Jvm.MethodName)) ∈ lw_all := lw_g (lw_at lw_m6 202 rfl) rfl
theorem q1516 : (Jvm.Cond.code ({ cls := "InsuredFlameModel", name := "beside", desc := "(II)I" } : Jvm.MethodName) prog_20_method_11_code (4 : Nat) (Option.some Jvm.ClassFile.FieldType.int)) ∈ lw_all := lw_g (lw_at lw_m6 203 rfl) rfl
theorem q1517 : (Jvm.Cond.methodLink "InsuredFlameModel" (106 : Nat) ({ cls := "InsuredFlameModel", name := "isSpot", desc := "(II)Z" } : Jvm.MethodName)) ∈ lw_all := lw_g (lw_at lw_m6 204 rfl) rfl
theorem q1518 : (Jvm.Cond.static ({ cls := "InsuredFlameModel", name := "isSpot", desc := "(II)Z" } : Jvm.MethodName)) ∈ lw_all := lw_g (lw_at lw_m6 205 rfl) rfl
theorem q1519 : (Jvm.Cond.code ({ cls := "InsuredFlameModel", name := "isSpot", desc := "(II)Z" } : Jvm.MethodName) prog_20_method_10_code (2 : Nat) (Option.some Jvm.ClassFile.FieldType.boolean)) ∈ lw_all := lw_g (lw_at lw_m6 206 rfl) rfl
theorem q1520 : (Jvm.Cond.methodLink "InsuredFlameModel" (297 : Nat) ({ cls := "InsuredFlameModel", name := "feels", desc := "(IIII)V" } : Jvm.MethodName)) ∈ lw_all := lw_g (lw_at lw_m6 207 rfl) rfl
theorem q1521 : (Jvm.Cond.privateMethod ({ cls := "InsuredFlameModel", name := "feels", desc := "(IIII)V" } : Jvm.MethodName)) ∈ lw_tbl := lw_at lw_m6 208 rfl
theorem q1522 : (Jvm.Cond.instanceMethod ({ cls := "InsuredFlameModel", name := "feels", desc := "(IIII)V" } : Jvm.MethodName)) ∈ lw_all := lw_g (lw_at lw_m6 209 rfl) rfl
theorem q1523 : (Jvm.Cond.code ({ cls := "InsuredFlameModel", name := "feels", desc := "(IIII)V" } : Jvm.MethodName) prog_20_method_60_code (5 : Nat) (Option.none : Option Jvm.ClassFile.FieldType)) ∈ lw_all := lw_g (lw_at lw_m6 210 rfl) rfl
theorem q1524 : (Jvm.Cond.methodLink "InsuredFlameModel" (284 : Nat) ({ cls := "InsuredFlameModel", name := "burnNextTo", desc := "(I)I" } : Jvm.MethodName)) ∈ lw_all := lw_g (lw_at lw_m6 211 rfl) rfl
theorem q1525 : (Jvm.Cond.privateMethod ({ cls := "InsuredFlameModel", name := "burnNextTo", desc := "(I)I" } : Jvm.MethodName)) ∈ lw_tbl := lw_at lw_m6 212 rfl
theorem q1526 : (Jvm.Cond.instanceMethod ({ cls := "InsuredFlameModel", name := "burnNextTo", desc := "(I)I" } : Jvm.MethodName)) ∈ lw_all := lw_g (lw_at lw_m6 213 rfl) rfl
theorem q1527 : (Jvm.Cond.code ({ cls := "InsuredFlameModel", name := "burnNextTo", desc := "(I)I" } : Jvm.MethodName) prog_20_method_59_code (4 : Nat) (Option.some Jvm.ClassFile.FieldType.int)) ∈ lw_all := lw_g (lw_at lw_m6 214 rfl) rfl
theorem q1528 : (Jvm.Cond.methodLink "InsuredFlameModel" (287 : Nat) ({ cls := "InsuredFlameModel", name := "valuesAt", desc := "(I)I" } : Jvm.MethodName)) ∈ lw_all := lw_g (lw_at lw_m6 215 rfl) rfl
theorem q1529 : (Jvm.Cond.privateMethod ({ cls := "InsuredFlameModel", name := "valuesAt", desc := "(I)I" } : Jvm.MethodName)) ∈ lw_tbl := lw_at lw_m6 216 rfl
theorem q1530 : (Jvm.Cond.instanceMethod ({ cls := "InsuredFlameModel", name := "valuesAt", desc := "(I)I" } : Jvm.MethodName)) ∈ lw_all := lw_g (lw_at lw_m6 217 rfl) rfl
theorem q1531 : (Jvm.Cond.code ({ cls := "InsuredFlameModel", name := "valuesAt", desc := "(I)I" } : Jvm.MethodName) prog_20_method_57_code (4 : Nat) (Option.some Jvm.ClassFile.FieldType.int)) ∈ lw_all := lw_g (lw_at lw_m6 218 rfl) rfl
theorem q1532 : (Jvm.Cond.methodLink "InsuredFlameModel" (290 : Nat) ({ cls := "InsuredFlameModel", name := "sumsAt", desc := "(I)I" } : Jvm.MethodName)) ∈ lw_all := lw_g (lw_at lw_m6 219 rfl) rfl
theorem q1533 : (Jvm.Cond.privateMethod ({ cls := "InsuredFlameModel", name := "sumsAt", desc := "(I)I" } : Jvm.MethodName)) ∈ lw_tbl := lw_at lw_m6 220 rfl
theorem q1534 : (Jvm.Cond.instanceMethod ({ cls := "InsuredFlameModel", name := "sumsAt", desc := "(I)I" } : Jvm.MethodName)) ∈ lw_all := lw_g (lw_at lw_m6 221 rfl) rfl
theorem q1535 : (Jvm.Cond.code ({ cls := "InsuredFlameModel", name := "sumsAt", desc := "(I)I" } : Jvm.MethodName) prog_20_method_58_code (4 : Nat) (Option.some Jvm.ClassFile.FieldType.int)) ∈ lw_all := lw_g (lw_at lw_m6 222 rfl) rfl
theorem q1536 : (Jvm.Cond.methodLink "InsuredFlameModel" (301 : Nat) ({ cls := "InsuredFlameModel", name := "byLaw", desc := "(III)I" } : Jvm.MethodName)) ∈ lw_all := lw_g (lw_at lw_m6 223 rfl) rfl
theorem q1537 : (Jvm.Cond.privateMethod ({ cls := "InsuredFlameModel", name := "byLaw", desc := "(III)I" } : Jvm.MethodName)) ∈ lw_tbl := lw_at lw_m6 224 rfl
theorem q1538 : (Jvm.Cond.instanceMethod ({ cls := "InsuredFlameModel", name := "byLaw", desc := "(III)I" } : Jvm.MethodName)) ∈ lw_all := lw_g (lw_at lw_m6 225 rfl) rfl
theorem q1539 : (Jvm.Cond.code ({ cls := "InsuredFlameModel", name := "byLaw", desc := "(III)I" } : Jvm.MethodName) prog_20_method_42_code (6 : Nat) (Option.some Jvm.ClassFile.FieldType.int)) ∈ lw_all := lw_g (lw_at lw_m6 226 rfl) rfl
theorem q1540 : (Jvm.Cond.methodLink "InsuredFlameModel" (225 : Nat) ({ cls := "InsuredFlameModel", name := "reckonsTo", desc := "(II)I" } : Jvm.MethodName)) ∈ lw_all := lw_g (lw_at lw_m6 227 rfl) rfl
theorem q1541 : (Jvm.Cond.privateMethod ({ cls := "InsuredFlameModel", name := "reckonsTo", desc := "(II)I" } : Jvm.MethodName)) ∈ lw_tbl := lw_at lw_m6 228 rfl
theorem q1542 : (Jvm.Cond.instanceMethod ({ cls := "InsuredFlameModel", name := "reckonsTo", desc := "(II)I" } : Jvm.MethodName)) ∈ lw_all := lw_g (lw_at lw_m6 229 rfl) rfl
theorem q1543 : (Jvm.Cond.code ({ cls := "InsuredFlameModel", name := "reckonsTo", desc := "(II)I" } : Jvm.MethodName) prog_20_method_41_code (8 : Nat) (Option.some Jvm.ClassFile.FieldType.int)) ∈ lw_all := lw_g (lw_at lw_m6 230 rfl) rfl
theorem q1544 : (Jvm.Cond.methodLink "InsuredFlameModel" (221 : Nat) ({ cls := "InsuredFlameModel", name := "reckon", desc := "(III)I" } : Jvm.MethodName)) ∈ lw_all := lw_g (lw_at lw_m6 231 rfl) rfl
theorem q1545 : (Jvm.Cond.static ({ cls := "InsuredFlameModel", name := "reckon", desc := "(III)I" } : Jvm.MethodName)) ∈ lw_all := lw_g (lw_at lw_m6 232 rfl) rfl
theorem q1546 : (Jvm.Cond.code ({ cls := "InsuredFlameModel", name := "reckon", desc := "(III)I" } : Jvm.MethodName) prog_20_method_40_code (3 : Nat) (Option.some Jvm.ClassFile.FieldType.int)) ∈ lw_all := lw_g (lw_at lw_m6 233 rfl) rfl
theorem q1547 : (Jvm.Cond.methodLink "InsuredFlameModel" (304 : Nat) ({ cls := "InsuredFlameModel", name := "draws", desc := "()I" } : Jvm.MethodName)) ∈ lw_all := lw_g (lw_at lw_m6 234 rfl) rfl
theorem q1548 : (Jvm.Cond.privateMethod ({ cls := "InsuredFlameModel", name := "draws", desc := "()I" } : Jvm.MethodName)) ∈ lw_tbl := lw_at lw_m6 235 rfl
theorem q1549 : (Jvm.Cond.instanceMethod ({ cls := "InsuredFlameModel", name := "draws", desc := "()I" } : Jvm.MethodName)) ∈ lw_all := lw_g (lw_at lw_m6 236 rfl) rfl
theorem q1550 : (Jvm.Cond.code ({ cls := "InsuredFlameModel", name := "draws", desc := "()I" } : Jvm.MethodName) prog_20_method_61_code (1 : Nat) (Option.some Jvm.ClassFile.FieldType.int)) ∈ lw_all := lw_g (lw_at lw_m6 237 rfl) rfl
theorem q1551 : (Jvm.Cond.constant "InsuredFlameModel" (293 : Nat) (65536 : Int32)) ∈ lw_all := lw_g (lw_at lw_m6 238 rfl) rfl
theorem q1552 : (Jvm.Cond.methodLink "InsuredFlameModel" (313 : Nat) ({ cls := "InsuredFlameModel", name := "holdsAny", desc := "(I)Z" } : Jvm.MethodName)) ∈ lw_all := lw_g (lw_at lw_m6 239 rfl) rfl
theorem q1553 : (Jvm.Cond.privateMethod ({ cls := "InsuredFlameModel", name := "holdsAny", desc := "(I)Z" } : Jvm.MethodName)) ∈ lw_tbl := lw_at lw_m7 0 rfl
theorem q1554 : (Jvm.Cond.instanceMethod ({ cls := "InsuredFlameModel", name := "holdsAny", desc := "(I)Z" } : Jvm.MethodName)) ∈ lw_all := lw_g (lw_at lw_m7 1 rfl) rfl
theorem q1555 : (Jvm.Cond.code ({ cls := "InsuredFlameModel", name := "holdsAny", desc := "(I)Z" } : Jvm.MethodName) prog_20_method_43_code (3 : Nat) (Option.some Jvm.ClassFile.FieldType.boolean)) ∈ lw_all := lw_g (lw_at lw_m7 2 rfl) rfl
theorem q1556 : (Jvm.Cond.methodLink "InsuredFlameModel" (325 : Nat) ({ cls := "InsuredFlameModel", name := "faring", desc := "(I)I" } : Jvm.MethodName)) ∈ lw_all := lw_g (lw_at lw_m7 3 rfl) rfl
theorem q1557 : (Jvm.Cond.privateMethod ({ cls := "InsuredFlameModel", name := "faring", desc := "(I)I" } : Jvm.MethodName)) ∈ lw_tbl := lw_at lw_m7 4 rfl
theorem q1558 : (Jvm.Cond.instanceMethod ({ cls := "InsuredFlameModel", name := "faring", desc := "(I)I" } : Jvm.MethodName)) ∈ lw_all := lw_g (lw_at lw_m7 5 rfl) rfl
theorem q1559 : (Jvm.Cond.code ({ cls := "InsuredFlameModel", name := "faring", desc := "(I)I" } : Jvm.MethodName) prog_20_method_67_code (4 : Nat) (Option.some Jvm.ClassFile.FieldType.int)) ∈ lw_all := lw_g (lw_at lw_m7 6 rfl) rfl
theorem q1561 : (Jvm.Cond.instanceMethod ({ cls := "InsuredFlameModel", name := "tried", desc := "(II)I" } : Jvm.MethodName)) ∈ lw_all := lw_g (lw_at lw_m7 8 rfl) rfl
theorem q1562 : (Jvm.Cond.selects "InsuredFlameModel" ({ cls := "InsuredFlameModel", name := "tried", desc := "(II)I" } : Jvm.MethodName) ({ cls := "InsuredFlameModel", name := "tried", desc := "(II)I" } : Jvm.MethodName)) ∈ lw_all := lw_g (lw_at lw_m7 9 rfl) rfl
theorem q1563 : (Jvm.Cond.code ({ cls := "InsuredFlameModel", name := "tried", desc := "(II)I" } : Jvm.MethodName) prog_20_method_71_code (4 : Nat) (Option.some Jvm.ClassFile.FieldType.int)) ∈ lw_all := lw_g (lw_at lw_m7 10 rfl) rfl
theorem q1564 : (Jvm.Cond.methodLink "InsuredFlameModel" (328 : Nat) ({ cls := "InsuredFlameModel", name := "goneSet", desc := "()I" } : Jvm.MethodName)) ∈ lw_all := lw_g (lw_at lw_m7 11 rfl) rfl
theorem q1565 : (Jvm.Cond.privateMethod ({ cls := "InsuredFlameModel", name := "goneSet", desc := "()I" } : Jvm.MethodName)) ∈ lw_tbl := lw_at lw_m7 12 rfl
theorem q1566 : (Jvm.Cond.instanceMethod ({ cls := "InsuredFlameModel", name := "goneSet", desc := "()I" } : Jvm.MethodName)) ∈ lw_all := lw_g (lw_at lw_m7 13 rfl) rfl
theorem q1567 : (Jvm.Cond.code ({ cls := "InsuredFlameModel", name := "goneSet", desc := "()I" } : Jvm.MethodName) prog_20_method_69_code (3 : Nat) (Option.some Jvm.ClassFile.FieldType.int)) ∈ lw_all := lw_g (lw_at lw_m7 14 rfl) rfl
theorem q1568 : (Jvm.Cond.methodLink "InsuredFlameModel" (331 : Nat) ({ cls := "InsuredFlameModel", name := "sumsInRuins", desc := "()I" } : Jvm.MethodName)) ∈ lw_all := lw_g (lw_at lw_m7 15 rfl) rfl
theorem q1569 : (Jvm.Cond.privateMethod ({ cls := "InsuredFlameModel", name := "sumsInRuins", desc := "()I" } : Jvm.MethodName)) ∈ lw_tbl := lw_at lw_m7 16 rfl
theorem q1570 : (Jvm.Cond.instanceMethod ({ cls := "InsuredFlameModel", name := "sumsInRuins", desc := "()I" } : Jvm.MethodName)) ∈ lw_all := lw_g (lw_at lw_m7 17 rfl) rfl
theorem q1571 : (Jvm.Cond.code ({ cls := "InsuredFlameModel", name := "sumsInRuins", desc := "()I" } : Jvm.MethodName) prog_20_method_70_code (3 : Nat) (Option.some Jvm.ClassFile.FieldType.int)) ∈ lw_all := lw_g (lw_at lw_m7 18 rfl) rfl
theorem q1573 : (Jvm.Cond.instanceMethod ({ cls := "InsuredFlameModel", name := "placeIs", desc := "(III)I" } : Jvm.MethodName)) ∈ lw_all := lw_g (lw_at lw_m7 20 rfl) rfl
theorem q1574 : (Jvm.Cond.selects "InsuredFlameModel" ({ cls := "InsuredFlameModel", name := "placeIs", desc := "(III)I" } : Jvm.MethodName) ({ cls := "InsuredFlameModel", name := "placeIs", desc := "(III)I" } : Jvm.MethodName)) ∈ lw_all := lw_g (lw_at lw_m7 21 rfl) rfl
theorem q1575 : (Jvm.Cond.code ({ cls := "InsuredFlameModel", name := "placeIs", desc := "(III)I" } : Jvm.MethodName) prog_20_method_73_code (5 : Nat) (Option.some Jvm.ClassFile.FieldType.int)) ∈ lw_all := lw_g (lw_at lw_m7 22 rfl) rfl
theorem q1576 : (Jvm.Cond.methodLink "InsuredFlameModel" (334 : Nat) ({ cls := "InsuredFlameModel", name := "thingsAt", desc := "(I)I" } : Jvm.MethodName)) ∈ lw_all := lw_g (lw_at lw_m7 23 rfl) rfl
theorem q1577 : (Jvm.Cond.privateMethod ({ cls := "InsuredFlameModel", name := "thingsAt", desc := "(I)I" } : Jvm.MethodName)) ∈ lw_tbl := lw_at lw_m7 24 rfl
theorem q1578 : (Jvm.Cond.instanceMethod ({ cls := "InsuredFlameModel", name := "thingsAt", desc := "(I)I" } : Jvm.MethodName)) ∈ lw_all := lw_g (lw_at lw_m7 25 rfl) rfl
theorem q1579 : (Jvm.Cond.code ({ cls := "InsuredFlameModel", name := "thingsAt", desc := "(I)I" } : Jvm.MethodName) prog_20_method_72_code (4 : Nat) (Option.some Jvm.ClassFile.FieldType.int)) ∈ lw_all := lw_g (lw_at lw_m7 26 rfl) rfl
theorem q1581 : (Jvm.Cond.instanceMethod ({ cls := "InsuredFlameModel", name := "thingIs", desc := "(II)I" } : Jvm.MethodName)) ∈ lw_all := lw_g (lw_at lw_m7 28 rfl) rfl
theorem q1582 : (Jvm.Cond.selects "InsuredFlameModel" ({ cls := "InsuredFlameModel", name := "thingIs", desc := "(II)I" } : Jvm.MethodName) ({ cls := "InsuredFlameModel", name := "thingIs", desc := "(II)I" } : Jvm.MethodName)) ∈ lw_all := lw_g (lw_at lw_m7 29 rfl) rfl
theorem q1583 : (Jvm.Cond.code ({ cls := "InsuredFlameModel", name := "thingIs", desc := "(II)I" } : Jvm.MethodName) prog_20_method_74_code (5 : Nat) (Option.some Jvm.ClassFile.FieldType.int)) ∈ lw_all := lw_g (lw_at lw_m7 30 rfl) rfl
theorem q1585 : (Jvm.Cond.instanceMethod ({ cls := "InsuredFlameModel", name := "comes", desc := "(III)I" } : Jvm.MethodName)) ∈ lw_all := lw_g (lw_at lw_m7 32 rfl) rfl
theorem q1586 : (Jvm.Cond.selects "InsuredFlameModel" ({ cls := "InsuredFlameModel", name := "comes", desc := "(III)I" } : Jvm.MethodName) ({ cls := "InsuredFlameModel", name := "comes", desc := "(III)I" } : Jvm.MethodName)) ∈ lw_all := lw_g (lw_at lw_m7 33 rfl) rfl
theorem q1587 : (Jvm.Cond.code ({ cls := "InsuredFlameModel", name := "comes", desc := "(III)I" } : Jvm.MethodName) prog_20_method_75_code (7 : Nat) (Option.some Jvm.ClassFile.FieldType.int)) ∈ lw_all := lw_g (lw_at lw_m7 34 rfl) rfl
theorem q1589 : (Jvm.Cond.instanceMethod ({ cls := "InsuredFlameModel", name := "over", desc := "(I)I" } : Jvm.MethodName)) ∈ lw_all := lw_g (lw_at lw_m7 36 rfl) rfl
theorem q1590 : (Jvm.Cond.selects "InsuredFlameModel" ({ cls := "InsuredFlameModel", name := "over", desc := "(I)I" } : Jvm.MethodName) ({ cls := "InsuredFlameModel", name := "over", desc := "(I)I" } : Jvm.MethodName)) ∈ lw_all := lw_g (lw_at lw_m7 37 rfl) rfl
theorem q1591 : (Jvm.Cond.code ({ cls := "InsuredFlameModel", name := "over", desc := "(I)I" } : Jvm.MethodName) prog_20_method_76_code (4 : Nat) (Option.some Jvm.ClassFile.FieldType.int)) ∈ lw_all := lw_g (lw_at lw_m7 38 rfl) rfl
theorem q1593 : (Jvm.Cond.instanceMethod ({ cls := "InsuredFlameModel", name := "steps", desc := "(II)I" } : Jvm.MethodName)) ∈ lw_all := lw_g (lw_at lw_m7 40 rfl) rfl
theorem q1594 : (Jvm.Cond.selects "InsuredFlameModel" ({ cls := "InsuredFlameModel", name := "steps", desc := "(II)I" } : Jvm.MethodName) ({ cls := "InsuredFlameModel", name := "steps", desc := "(II)I" } : Jvm.MethodName)) ∈ lw_all := lw_g (lw_at lw_m7 41 rfl) rfl
theorem q1595 : (Jvm.Cond.code ({ cls := "InsuredFlameModel", name := "steps", desc := "(II)I" } : Jvm.MethodName) prog_20_method_81_code (3 : Nat) (Option.some Jvm.ClassFile.FieldType.int)) ∈ lw_all := lw_g (lw_at lw_m7 42 rfl) rfl
theorem q1596 : (Jvm.Cond.methodLink "InsuredFlameModel" (343 : Nat) ({ cls := "InsuredFlameModel", name := "laysFireFrom", desc := "(I)V" } : Jvm.MethodName)) ∈ lw_all := lw_g (lw_at lw_m7 43 rfl) rfl
theorem q1597 : (Jvm.Cond.privateMethod ({ cls := "InsuredFlameModel", name := "laysFireFrom", desc := "(I)V" } : Jvm.MethodName)) ∈ lw_tbl := lw_at lw_m7 44 rfl
theorem q1598 : (Jvm.Cond.instanceMethod ({ cls := "InsuredFlameModel", name := "laysFireFrom", desc := "(I)V" } : Jvm.MethodName)) ∈ lw_all := lw_g (lw_at lw_m7 45 rfl) rfl
theorem q1599 : (Jvm.Cond.code ({ cls := "InsuredFlameModel", name := "laysFireFrom", desc := "(I)V" } : Jvm.MethodName) prog_20_method_79_code (2 : Nat) (Option.none : Option Jvm.ClassFile.FieldType)) ∈ lw_all := lw_g (lw_at lw_m7 46 rfl) rfl
theorem q1600 : (Jvm.Cond.methodLink "InsuredFlameModel" (337 : Nat) ({ cls := "InsuredFlameModel", name := "clearsFire", desc := "()V" } : Jvm.MethodName)) ∈ lw_all := lw_g (lw_at lw_m7 47 rfl) rfl
theorem q1601 : (Jvm.Cond.privateMethod ({ cls := "InsuredFlameModel", name := "clearsFire", desc := "()V" } : Jvm.MethodName)) ∈ lw_tbl := lw_at lw_m7 48 rfl
theorem q1602 : (Jvm.Cond.instanceMethod ({ cls := "InsuredFlameModel", name := "clearsFire", desc := "()V" } : Jvm.MethodName)) ∈ lw_all := lw_g (lw_at lw_m7 49 rfl) rfl
theorem q1603 : (Jvm.Cond.code ({ cls := "InsuredFlameModel", name := "clearsFire", desc := "()V" } : Jvm.MethodName) prog_20_method_78_code (2 : Nat) (Option.none : Option Jvm.ClassFile.FieldType)) ∈ lw_all := lw_g (lw_at lw_m7 50 rfl) rfl
theorem q1604 : (Jvm.Cond.methodLink "InsuredFlameModel" (340 : Nat) ({ cls := "InsuredFlameModel", name := "laysFire", desc := "(I)V" } : Jvm.MethodName)) ∈ lw_all := lw_g (lw_at lw_m7 51 rfl) rfl
theorem q1605 : (Jvm.Cond.privateMethod ({ cls := "InsuredFlameModel", name := "laysFire", desc := "(I)V" } : Jvm.MethodName)) ∈ lw_tbl := lw_at lw_m7 52 rfl
theorem q1606 : (Jvm.Cond.instanceMethod ({ cls := "InsuredFlameModel", name := "laysFire", desc := "(I)V" } : Jvm.MethodName)) ∈ lw_all := lw_g (lw_at lw_m7 53 rfl) rfl
theorem q1607 : (Jvm.Cond.code ({ cls := "InsuredFlameModel", name := "laysFire", desc := "(I)V" } : Jvm.MethodName) prog_20_method_77_code (6 : Nat) (Option.none : Option Jvm.ClassFile.FieldType)) ∈ lw_all := lw_g (lw_at lw_m7 54 rfl) rfl
theorem q1609 : (Jvm.Cond.instanceMethod ({ cls := "InsuredFlameModel", name := "began", desc := "(II)I" } : Jvm.MethodName)) ∈ lw_all := lw_g (lw_at lw_m7 56 rfl) rfl
theorem q1610 : (Jvm.Cond.selects "InsuredFlameModel" ({ cls := "InsuredFlameModel", name := "began", desc := "(II)I" } : Jvm.MethodName) ({ cls := "InsuredFlameModel", name := "began", desc := "(II)I" } : Jvm.MethodName)) ∈ lw_all := lw_g (lw_at lw_m7 57 rfl) rfl
theorem q1611 : (Jvm.Cond.code ({ cls := "InsuredFlameModel", name := "began", desc := "(II)I" } : Jvm.MethodName) prog_20_method_83_code (6 : Nat) (Option.some Jvm.ClassFile.FieldType.int)) ∈ lw_all := lw_g (lw_at lw_m7 58 rfl) rfl
theorem q1612 : (Jvm.Cond.methodLink "InsuredFlameModel" (346 : Nat) ({ cls := "InsuredFlameModel", name := "couldBegin", desc := "(II)Z" } : Jvm.MethodName)) ∈ lw_all := lw_g (lw_at lw_m7 59 rfl) rfl
theorem q1613 : (Jvm.Cond.privateMethod ({ cls := "InsuredFlameModel", name := "couldBegin", desc := "(II)Z" } : Jvm.MethodName)) ∈ lw_tbl := lw_at lw_m7 60 rfl
theorem q1614 : (Jvm.Cond.instanceMethod ({ cls := "InsuredFlameModel", name := "couldBegin", desc := "(II)Z" } : Jvm.MethodName)) ∈ lw_all := lw_g (lw_at lw_m7 61 rfl) rfl
theorem q1615 : (Jvm.Cond.code ({ cls := "InsuredFlameModel", name := "couldBegin", desc := "(II)Z" } : Jvm.MethodName) prog_20_method_82_code (4 : Nat) (Option.some Jvm.ClassFile.FieldType.boolean)) ∈ lw_all := lw_g (lw_at lw_m7 62 rfl) rfl
theorem q1617 : (Jvm.Cond.instanceMethod ({ cls := "InsuredFlameModel", name := "breaks", desc := "(II)I" } : Jvm.MethodName)) ∈ lw_all := lw_g (lw_at lw_m7 64 rfl) rfl
theorem q1618 : (Jvm.Cond.selects "InsuredFlameModel" ({ cls := "InsuredFlameModel", name := "breaks", desc := "(II)I" } : Jvm.MethodName) ({ cls := "InsuredFlameModel", name := "breaks", desc := "(II)I" } : Jvm.MethodName)) ∈ lw_all := lw_g (lw_at lw_m7 65 rfl) rfl
theorem q1619 : (Jvm.Cond.code ({ cls := "InsuredFlameModel", name := "breaks", desc := "(II)I" } : Jvm.MethodName) prog_20_method_88_code (4 : Nat) (Option.some Jvm.ClassFile.FieldType.int)) ∈ lw_all := lw_g (lw_at lw_m7 66 rfl) rfl
theorem q1620 : (Jvm.Cond.methodLink "InsuredFlameModel" (361 : Nat) ({ cls := "InsuredFlameModel", name := "waysApart", desc := "(II)I" } : Jvm.MethodName)) ∈ lw_all := lw_g (lw_at lw_m7 67 rfl) rfl
theorem q1621 : (Jvm.Cond.privateMethod ({ cls := "InsuredFlameModel", name := "waysApart", desc := "(II)I" } : Jvm.MethodName)) ∈ lw_tbl := lw_at lw_m7 68 rfl
theorem q1622 : (Jvm.Cond.instanceMethod ({ cls := "InsuredFlameModel", name := "waysApart", desc := "(II)I" } : Jvm.MethodName)) ∈ lw_all := lw_g (lw_at lw_m7 69 rfl) rfl
theorem q1623 : (Jvm.Cond.code ({ cls := "InsuredFlameModel", name := "waysApart", desc := "(II)I" } : Jvm.MethodName) prog_20_method_86_code (5 : Nat) (Option.some Jvm.ClassFile.FieldType.int)) ∈ lw_all := lw_g (lw_at lw_m7 70 rfl) rfl
theorem q1624 : (Jvm.Cond.methodLink "InsuredFlameModel" (355 : Nat) ({ cls := "InsuredFlameModel", name := "findsWay", desc := "(II)Z" } : Jvm.MethodName)) ∈ lw_all := lw_g (lw_at lw_m7 71 rfl) rfl
theorem q1625 : (Jvm.Cond.privateMethod ({ cls := "InsuredFlameModel", name := "findsWay", desc := "(II)Z" } : Jvm.MethodName)) ∈ lw_tbl := lw_at lw_m7 72 rfl
theorem q1626 : (Jvm.Cond.instanceMethod ({ cls := "InsuredFlameModel", name := "findsWay", desc := "(II)Z" } : Jvm.MethodName)) ∈ lw_all := lw_g (lw_at lw_m7 73 rfl) rfl
theorem q1627 : (Jvm.Cond.code ({ cls := "InsuredFlameModel", name := "findsWay", desc := "(II)Z" } : Jvm.MethodName) prog_20_method_85_code (9 : Nat) (Option.some Jvm.ClassFile.FieldType.boolean)) ∈ lw_all := lw_g (lw_at lw_m7 74 rfl) rfl
theorem q1628 : (Jvm.Cond.methodLink "InsuredFlameModel" (352 : Nat) ({ cls := "InsuredFlameModel", name := "visits", desc := "(II)V" } : Jvm.MethodName)) ∈ lw_all := lw_g (lw_at lw_m7 75 rfl) rfl
theorem q1629 : (Jvm.Cond.privateMethod ({ cls := "InsuredFlameModel", name := "visits", desc := "(II)V" } : Jvm.MethodName)) ∈ lw_tbl := lw_at lw_m7 76 rfl
theorem q1630 : (Jvm.Cond.instanceMethod ({ cls := "InsuredFlameModel", name := "visits", desc := "(II)V" } : Jvm.MethodName)) ∈ lw_all := lw_g (lw_at lw_m7 77 rfl) rfl
theorem q1631 : (Jvm.Cond.code ({ cls := "InsuredFlameModel", name := "visits", desc := "(II)V" } : Jvm.MethodName) prog_20_method_84_code (3 : Nat) (Option.none : Option Jvm.ClassFile.FieldType)) ∈ lw_all := lw_g (lw_at lw_m7 78 rfl) rfl
theorem q1632 : (Jvm.Cond.methodLink "InsuredFlameModel" (358 : Nat) ({ cls := "InsuredFlameModel", name := "goesAlong", desc := "(II)V" } : Jvm.MethodName)) ∈ lw_all := lw_g (lw_at lw_m7 79 rfl) rfl
theorem q1633 : (Jvm.Cond.privateMethod ({ cls := "InsuredFlameModel", name := "goesAlong", desc := "(II)V" } : Jvm.MethodName)) ∈ lw_tbl := lw_at lw_m7 80 rfl
theorem q1634 : (Jvm.Cond.instanceMethod ({ cls := "InsuredFlameModel", name := "goesAlong", desc := "(II)V" } : Jvm.MethodName)) ∈ lw_all := lw_g (lw_at lw_m7 81 rfl) rfl
theorem q1635 : (Jvm.Cond.code ({ cls := "InsuredFlameModel", name := "goesAlong", desc := "(II)V" } : Jvm.MethodName) prog_20_method_87_code (8 : Nat) (Option.none : Option Jvm.ClassFile.FieldType)) ∈ lw_all := lw_g (lw_at lw_m7 82 rfl) rfl
theorem q1637 : (Jvm.Cond.instanceMethod ({ cls := "InsuredFlameModel", name := "getsOut", desc := "(I)I" } : Jvm.MethodName)) ∈ lw_all := lw_g (lw_at lw_m7 84 rfl) rfl
theorem q1638 : (Jvm.Cond.selects "InsuredFlameModel" ({ cls := "InsuredFlameModel", name := "getsOut", desc := "(I)I" } : Jvm.MethodName) ({ cls := "InsuredFlameModel", name := "getsOut", desc := "(I)I" } : Jvm.MethodName)) ∈ lw_all := lw_g (lw_at lw_m7 85 rfl) rfl
theorem q1639 : (Jvm.Cond.code ({ cls := "InsuredFlameModel", name := "getsOut", desc := "(I)I" } : Jvm.MethodName) prog_20_method_90_code (7 : Nat) (Option.some Jvm.ClassFile.FieldType.int)) ∈ lw_all := lw_g (lw_at lw_m7 86 rfl) rfl
theorem q1640 : (Jvm.Cond.methodLink "InsuredFlameModel" (364 : Nat) ({ cls := "InsuredFlameModel", name := "laysFireNow", desc := "()V" } : Jvm.MethodName)) ∈ lw_all := lw_g (lw_at lw_m7 87 rfl) rfl
theorem q1641 : (Jvm.Cond.privateMethod ({ cls := "InsuredFlameModel", name := "laysFireNow", desc := "()V" } : Jvm.MethodName)) ∈ lw_tbl := lw_at lw_m7 88 rfl
theorem q1642 : (Jvm.Cond.instanceMethod ({ cls := "InsuredFlameModel", name := "laysFireNow", desc := "()V" } : Jvm.MethodName)) ∈ lw_all := lw_g (lw_at lw_m7 89 rfl) rfl
theorem q1643 : (Jvm.Cond.code ({ cls := "InsuredFlameModel", name := "laysFireNow", desc := "()V" } : Jvm.MethodName) prog_20_method_80_code (3 : Nat) (Option.none : Option Jvm.ClassFile.FieldType)) ∈ lw_all := lw_g (lw_at lw_m7 90 rfl) rfl
theorem q1644 : (Jvm.Cond.methodLink "InsuredFlameModel" (367 : Nat) ({ cls := "InsuredFlameModel", name := "isAtEdge", desc := "(I)Z" } : Jvm.MethodName)) ∈ lw_all := lw_g (lw_at lw_m7 91 rfl) rfl
theorem q1645 : (Jvm.Cond.static ({ cls := "InsuredFlameModel", name := "isAtEdge", desc := "(I)Z" } : Jvm.MethodName)) ∈ lw_all := lw_g (lw_at lw_m7 92 rfl) rfl
theorem q1646 : (Jvm.Cond.code ({ cls := "InsuredFlameModel", name := "isAtEdge", desc := "(I)Z" } : Jvm.MethodName) prog_20_method_89_code (1 : Nat) (Option.some Jvm.ClassFile.FieldType.boolean)) ∈ lw_all := lw_g (lw_at lw_m7 93 rfl) rfl
theorem q1648 : (Jvm.Cond.instanceMethod ({ cls := "InsuredFlameModel", name := "safe", desc := "(I)I" } : Jvm.MethodName)) ∈ lw_all := lw_g (lw_at lw_m7 95 rfl) rfl
theorem q1649 : (Jvm.Cond.selects "InsuredFlameModel" ({ cls := "InsuredFlameModel", name := "safe", desc := "(I)I" } : Jvm.MethodName) ({ cls := "InsuredFlameModel", name := "safe", desc := "(I)I" } : Jvm.MethodName)) ∈ lw_all := lw_g (lw_at lw_m7 96 rfl) rfl
theorem q1650 : (Jvm.Cond.code ({ cls := "InsuredFlameModel", name := "safe", desc := "(I)I" } : Jvm.MethodName) prog_20_method_91_code (5 : Nat) (Option.some Jvm.ClassFile.FieldType.int)) ∈ lw_all := lw_g (lw_at lw_m7 97 rfl) rfl
theorem q1652 : (Jvm.Cond.instanceMethod ({ cls := "InsuredFlameModel", name := "woods", desc := "(I)I" } : Jvm.MethodName)) ∈ lw_all := lw_g (lw_at lw_m7 99 rfl) rfl
theorem q1653 : (Jvm.Cond.selects "InsuredFlameModel" ({ cls := "InsuredFlameModel", name := "woods", desc := "(I)I" } : Jvm.MethodName) ({ cls := "InsuredFlameModel", name := "woods", desc := "(I)I" } : Jvm.MethodName)) ∈ lw_all := lw_g (lw_at lw_m7 100 rfl) rfl
theorem q1654 : (Jvm.Cond.code ({ cls := "InsuredFlameModel", name := "woods", desc := "(I)I" } : Jvm.MethodName) prog_20_method_92_code (6 : Nat) (Option.some Jvm.ClassFile.FieldType.int)) ∈ lw_all := lw_g (lw_at lw_m7 101 rfl) rfl
theorem q1655 : (Jvm.Cond.methodLink "InsuredFlameModel" (370 : Nat) ({ cls := "InsuredFlameModel", name := "woodSeen", desc := "()I" } : Jvm.MethodName)) ∈ lw_all := lw_g (lw_at lw_m7 102 rfl) rfl
theorem q1656 : (Jvm.Cond.privateMethod ({ cls := "InsuredFlameModel", name := "woodSeen", desc := "()I" } : Jvm.MethodName)) ∈ lw_tbl := lw_at lw_m7 103 rfl
theorem q1657 : (Jvm.Cond.instanceMethod ({ cls := "InsuredFlameModel", name := "woodSeen", desc := "()I" } : Jvm.MethodName)) ∈ lw_all := lw_g (lw_at lw_m7 104 rfl) rfl
theorem q1658 : (Jvm.Cond.code ({ cls := "InsuredFlameModel", name := "woodSeen", desc := "()I" } : Jvm.MethodName) prog_20_method_93_code (3 : Nat) (Option.some Jvm.ClassFile.FieldType.int)) ∈ lw_all := lw_g (lw_at lw_m7 105 rfl) rfl
theorem q1659 : (Jvm.Cond.methodLink "InsuredFlameModel" (373 : Nat) ({ cls := "InsuredFlameModel", name := "max", desc := "(II)I" } : Jvm.MethodName)) ∈ lw_all := lw_g (lw_at lw_m7 106 rfl) rfl
theorem q1660 : (Jvm.Cond.static ({ cls := "InsuredFlameModel", name := "max", desc := "(II)I" } : Jvm.MethodName)) ∈ lw_all := lw_g (lw_at lw_m7 107 rfl) rfl
theorem q1661 : (Jvm.Cond.code ({ cls := "InsuredFlameModel", name := "max", desc := "(II)I" } : Jvm.MethodName) prog_20_method_4_code (2 : Nat) (Option.some Jvm.ClassFile.FieldType.int)) ∈ lw_all := lw_g (lw_at lw_m7 108 rfl) rfl
theorem q1663 : (Jvm.Cond.instanceMethod ({ cls := "InsuredFlameModel", name := "insure", desc := "(III)I" } : Jvm.MethodName)) ∈ lw_all := lw_g (lw_at lw_m7 110 rfl) rfl
theorem q1664 : (Jvm.Cond.selects "InsuredFlameModel" ({ cls := "InsuredFlameModel", name := "insure", desc := "(III)I" } : Jvm.MethodName) ({ cls := "InsuredFlameModel", name := "insure", desc := "(III)I" } : Jvm.MethodName)) ∈ lw_all := lw_g (lw_at lw_m7 111 rfl) rfl
theorem q1665 : (Jvm.Cond.code ({ cls := "InsuredFlameModel", name := "insure", desc := "(III)I" } : Jvm.MethodName) prog_20_method_94_code (11 : Nat) (Option.some Jvm.ClassFile.FieldType.int)) ∈ lw_all := lw_g (lw_at lw_m7 112 rfl) rfl
theorem q1666 : (Jvm.Cond.methodLink "InsuredFlameModel" (376 : Nat) ({ cls := "InsuredFlameModel", name := "has", desc := "(II)Z" } : Jvm.MethodName)) ∈ lw_all := lw_g (lw_at lw_m7 113 rfl) rfl
theorem q1667 : (Jvm.Cond.static ({ cls := "InsuredFlameModel", name := "has", desc := "(II)Z" } : Jvm.MethodName)) ∈ lw_all := lw_g (lw_at lw_m7 114 rfl) rfl
theorem q1668 : (Jvm.Cond.code ({ cls := "InsuredFlameModel", name := "has", desc := "(II)Z" } : Jvm.MethodName) prog_20_method_6_code (2 : Nat) (Option.some Jvm.ClassFile.FieldType.boolean)) ∈ lw_all := lw_g (lw_at lw_m7 115 rfl) rfl
theorem q1669 : (Jvm.Cond.methodLink "InsuredFlameModel" (379 : Nat) ({ cls := "InsuredFlameModel", name := "octet", desc := "(I)I" } : Jvm.MethodName)) ∈ lw_all := lw_g (lw_at lw_m7 116 rfl) rfl
theorem q1670 : (Jvm.Cond.privateMethod ({ cls := "InsuredFlameModel", name := "octet", desc := "(I)I" } : Jvm.MethodName)) ∈ lw_tbl := lw_at lw_m7 117 rfl
theorem q1671 : (Jvm.Cond.instanceMethod ({ cls := "InsuredFlameModel", name := "octet", desc := "(I)I" } : Jvm.MethodName)) ∈ lw_all := lw_g (lw_at lw_m7 118 rfl) rfl
theorem q1672 : (Jvm.Cond.code ({ cls := "InsuredFlameModel", name := "octet", desc := "(I)I" } : Jvm.MethodName) prog_20_method_17_code (2 : Nat) (Option.some Jvm.ClassFile.FieldType.int)) ∈ lw_all := lw_g (lw_at lw_m7 119 rfl) rfl
theorem q1674 : (Jvm.Cond.instanceMethod ({ cls := "InsuredFlameModel", name := "roundFigure", desc := "(I)I" } : Jvm.MethodName)) ∈ lw_all := lw_g (lw_at lw_m7 121 rfl) rfl
theorem q1675 : (Jvm.Cond.selects "InsuredFlameModel" ({ cls := "InsuredFlameModel", name := "roundFigure", desc := "(I)I" } : Jvm.MethodName) ({ cls := "InsuredFlameModel", name := "roundFigure", desc := "(I)I" } : Jvm.MethodName)) ∈ lw_all := lw_g (lw_at lw_m7 122 rfl) rfl
theorem q1676 : (Jvm.Cond.code ({ cls := "InsuredFlameModel", name := "roundFigure", desc := "(I)I" } : Jvm.MethodName) prog_20_method_95_code (4 : Nat) (Option.some Jvm.ClassFile.FieldType.int)) ∈ lw_all := lw_g (lw_at lw_m7 123 rfl) rfl
theorem q1677 : (Jvm.Cond.constant "InsuredFlameModel" (382 : Nat) (999999 : Int32)) ∈ lw_all := lw_g (lw_at lw_m7 124 rfl) rfl
theorem q1678 : (Jvm.Cond.constant "InsuredFlameModel" (383 : Nat) (1000000 : Int32)) ∈ lw_all := lw_g (lw_at lw_m7 125 rfl) rfl
theorem q1679 : (Jvm.Cond.methodLink "InsuredFlameModel" (384 : Nat) ({ cls := "InsuredFlameModel", name := "size", desc := "(I)I" } : Jvm.MethodName)) ∈ lw_all := lw_g (lw_at lw_m7 126 rfl) rfl
theorem q1680 : (Jvm.Cond.static ({ cls := "InsuredFlameModel", name := "size", desc := "(I)I" } : Jvm.MethodName)) ∈ lw_all := lw_g (lw_at lw_m7 127 rfl) rfl
theorem q1681 : (Jvm.Cond.code ({ cls := "InsuredFlameModel", name := "size", desc := "(I)I" } : Jvm.MethodName) prog_20_method_5_code (1 : Nat) (Option.some Jvm.ClassFile.FieldType.int)) ∈ lw_all := lw_g (lw_at lw_m7 128 rfl) rfl
theorem q1683 : (Jvm.Cond.instanceMethod ({ cls := "InsuredFlameModel", name := "ruin", desc := "(III)I" } : Jvm.MethodName)) ∈ lw_all := lw_g (lw_at lw_m7 130 rfl) rfl
theorem q1684 : (Jvm.Cond.selects "InsuredFlameModel" ({ cls := "InsuredFlameModel", name := "ruin", desc := "(III)I" } : Jvm.MethodName) ({ cls := "InsuredFlameModel", name := "ruin", desc := "(III)I" } : Jvm.MethodName)) ∈ lw_all := lw_g (lw_at lw_m7 131 rfl) rfl
theorem q1685 : (Jvm.Cond.code ({ cls := "InsuredFlameModel", name := "ruin", desc := "(III)I" } : Jvm.MethodName) prog_20_method_97_code (7 : Nat) (Option.some Jvm.ClassFile.FieldType.int)) ∈ lw_all := lw_g (lw_at lw_m7 132 rfl) rfl
theorem q1686 : (Jvm.Cond.methodLink "InsuredFlameModel" (387 : Nat) ({ cls := "InsuredFlameModel", name := "restOf", desc := "(III)I" } : Jvm.MethodName)) ∈ lw_all := lw_g (lw_at lw_m7 133 rfl) rfl
theorem q1687 : (Jvm.Cond.privateMethod ({ cls := "InsuredFlameModel", name := "restOf", desc := "(III)I" } : Jvm.MethodName)) ∈ lw_tbl := lw_at lw_m7 134 rfl
theorem q1688 : (Jvm.Cond.instanceMethod ({ cls := "InsuredFlameModel", name := "restOf", desc := "(III)I" } : Jvm.MethodName)) ∈ lw_all := lw_g (lw_at lw_m7 135 rfl) rfl
theorem q1689 : (Jvm.Cond.code ({ cls := "InsuredFlameModel", name := "restOf", desc := "(III)I" } : Jvm.MethodName) prog_20_method_96_code (6 : Nat) (Option.some Jvm.ClassFile.FieldType.int)) ∈ lw_all := lw_g (lw_at lw_m7 136 rfl) rfl
theorem q1690 : (Jvm.Cond.methodLink "InsuredFlameModel" (390 : Nat) ({ cls := "InsuredFlameModel", name := "bits", desc := "(I)I" } : Jvm.MethodName)) ∈ lw_all := lw_g (lw_at lw_m7 137 rfl) rfl
theorem q1691 : (Jvm.Cond.static ({ cls := "InsuredFlameModel", name := "bits", desc := "(I)I" } : Jvm.MethodName)) ∈ lw_all := lw_g (lw_at lw_m7 138 rfl) rfl
theorem q1692 : (Jvm.Cond.code ({ cls := "InsuredFlameModel", name := "bits", desc := "(I)I" } : Jvm.MethodName) prog_20_method_7_code (3 : Nat) (Option.some Jvm.ClassFile.FieldType.int)) ∈ lw_all := lw_g (lw_at lw_m7 139 rfl) rfl
theorem q1694 : (Jvm.Cond.instanceMethod ({ cls := "InsuredFlameModel", name := "carried", desc := "(I)I" } : Jvm.MethodName)) ∈ lw_all := lw_g (lw_at lw_m7 141 rfl) rfl
theorem q1695 : (Jvm.Cond.selects "InsuredFlameModel" ({ cls := "InsuredFlameModel", name := "carried", desc := "(I)I" } : Jvm.MethodName) ({ cls := "InsuredFlameModel", name := "carried", desc := "(I)I" } : Jvm.MethodName)) ∈ lw_all := lw_g (lw_at lw_m7 142 rfl) rfl
theorem q1696 : (Jvm.Cond.code ({ cls := "InsuredFlameModel", name := "carried", desc := "(I)I" } : Jvm.MethodName) prog_20_method_100_code (4 : Nat) (Option.some Jvm.ClassFile.FieldType.int)) ∈ lw_all := lw_g (lw_at lw_m7 143 rfl) rfl
theorem q1697 : (Jvm.Cond.methodLink "InsuredFlameModel" (393 : Nat) ({ cls := "InsuredFlameModel", name := "laysRow", desc := "(I)V" } : Jvm.MethodName)) ∈ lw_all := lw_g (lw_at lw_m7 144 rfl) rfl
theorem q1698 : (Jvm.Cond.privateMethod ({ cls := "InsuredFlameModel", name := "laysRow", desc := "(I)V" } : Jvm.MethodName)) ∈ lw_tbl := lw_at lw_m7 145 rfl
theorem q1699 : (Jvm.Cond.instanceMethod ({ cls := "InsuredFlameModel", name := "laysRow", desc := "(I)V" } : Jvm.MethodName)) ∈ lw_all := lw_g (lw_at lw_m7 146 rfl) rfl
theorem q1700 : (Jvm.Cond.code ({ cls := "InsuredFlameModel", name := "laysRow", desc := "(I)V" } : Jvm.MethodName) prog_20_method_98_code (4 : Nat) (Option.none : Option Jvm.ClassFile.FieldType)) ∈ lw_all := lw_g (lw_at lw_m7 147 rfl) rfl
theorem q1701 : (Jvm.Cond.methodLink "InsuredFlameModel" (396 : Nat) ({ cls := "InsuredFlameModel", name := "worthOf", desc := "(II)I" } : Jvm.MethodName)) ∈ lw_all := lw_g (lw_at lw_m7 148 rfl) rfl
theorem q1702 : (Jvm.Cond.privateMethod ({ cls := "InsuredFlameModel", name := "worthOf", desc := "(II)I" } : Jvm.MethodName)) ∈ lw_tbl := lw_at lw_m7 149 rfl
theorem q1703 : (Jvm.Cond.instanceMethod ({ cls := "InsuredFlameModel", name := "worthOf", desc := "(II)I" } : Jvm.MethodName)) ∈ lw_all := lw_g (lw_at lw_m7 150 rfl) rfl
theorem q1704 : (Jvm.Cond.code ({ cls := "InsuredFlameModel", name := "worthOf", desc := "(II)I" } : Jvm.MethodName) prog_20_method_99_code (7 : Nat) (Option.some Jvm.ClassFile.FieldType.int)) ∈ lw_all := lw_g (lw_at lw_m7 151 rfl) rfl
theorem q1706 : (Jvm.Cond.instanceMethod ({ cls := "InsuredFlameModel", name := "premium", desc := "(II)I" } : Jvm.MethodName)) ∈ lw_all := lw_g (lw_at lw_m7 153 rfl) rfl
theorem q1707 : (Jvm.Cond.selects "InsuredFlameModel" ({ cls := "InsuredFlameModel", name := "premium", desc := "(II)I" } : Jvm.MethodName) ({ cls := "InsuredFlameModel", name := "premium", desc := "(II)I" } : Jvm.MethodName)) ∈ lw_all := lw_g (lw_at lw_m7 154 rfl) rfl
theorem q1708 : (Jvm.Cond.code ({ cls := "InsuredFlameModel", name := "premium", desc := "(II)I" } : Jvm.MethodName) prog_20_method_101_code (6 : Nat) (Option.some Jvm.ClassFile.FieldType.int)) ∈ lw_all := lw_g (lw_at lw_m7 155 rfl) rfl
theorem q1710 : (Jvm.Cond.instanceMethod ({ cls := "InsuredFlameModel", name := "seed", desc := "(I)Z" } : Jvm.MethodName)) ∈ lw_all := lw_g (lw_at lw_m7 157 rfl) rfl
theorem q1711 : (Jvm.Cond.selects "InsuredFlameModel" ({ cls := "InsuredFlameModel", name := "seed", desc := "(I)Z" } : Jvm.MethodName) ({ cls := "InsuredFlameModel", name := "seed", desc := "(I)Z" } : Jvm.MethodName)) ∈ lw_all := lw_g (lw_at lw_m7 158 rfl) rfl
theorem q1712 : (Jvm.Cond.code ({ cls := "InsuredFlameModel", name := "seed", desc := "(I)Z" } : Jvm.MethodName) prog_20_method_102_code (2 : Nat) (Option.some Jvm.ClassFile.FieldType.boolean)) ∈ lw_all := lw_g (lw_at lw_m7 159 rfl) rfl
theorem q1713 : (Jvm.Cond.constant "InsuredFlameModel" (399 : Nat) (65535 : Int32)) ∈ lw_all := lw_g (lw_at lw_m7 160 rfl) rfl
theorem q1715 : (Jvm.Cond.instanceMethod ({ cls := "InsuredFlameModel", name := "keep", desc := "()I" } : Jvm.MethodName)) ∈ lw_all := lw_g (lw_at lw_m7 162 rfl) rfl
theorem q1716 : (Jvm.Cond.selects "InsuredFlameModel" ({ cls := "InsuredFlameModel", name := "keep", desc := "()I" } : Jvm.MethodName) ({ cls := "InsuredFlameModel", name := "keep", desc := "()I" } : Jvm.MethodName)) ∈ lw_all := lw_g (lw_at lw_m7 163 rfl) rfl
theorem q1717 : (Jvm.Cond.code ({ cls := "InsuredFlameModel", name := "keep", desc := "()I" } : Jvm.MethodName) prog_20_method_103_code (1 : Nat) (Option.some Jvm.ClassFile.FieldType.int)) ∈ lw_all := lw_g (lw_at lw_m7 164 rfl) rfl
theorem q1719 : (Jvm.Cond.instanceMethod ({ cls := "InsuredFlameModel", name := "undo", desc := "()Z" } : Jvm.MethodName)) ∈ lw_all := lw_g (lw_at lw_m7 166 rfl) rfl
theorem q1720 : (Jvm.Cond.selects "InsuredFlameModel" ({ cls := "InsuredFlameModel", name := "undo", desc := "()Z" } : Jvm.MethodName) ({ cls := "InsuredFlameModel", name := "undo", desc := "()Z" } : Jvm.MethodName)) ∈ lw_all := lw_g (lw_at lw_m7 167 rfl) rfl
theorem q1721 : (Jvm.Cond.code ({ cls := "InsuredFlameModel", name := "undo", desc := "()Z" } : Jvm.MethodName) prog_20_method_104_code (2 : Nat) (Option.some Jvm.ClassFile.FieldType.boolean)) ∈ lw_all := lw_g (lw_at lw_m7 168 rfl) rfl
theorem q1723 : (Jvm.Cond.instanceMethod ({ cls := "InsuredFlameModel", name := "check", desc := "(I)I" } : Jvm.MethodName)) ∈ lw_all := lw_g (lw_at lw_m7 170 rfl) rfl
theorem q1724 : (Jvm.Cond.selects "InsuredFlameModel" ({ cls := "InsuredFlameModel", name := "check", desc := "(I)I" } : Jvm.MethodName) ({ cls := "InsuredFlameModel", name := "check", desc := "(I)I" } : Jvm.MethodName)) ∈ lw_all := lw_g (lw_at lw_m7 171 rfl) rfl
theorem q1725 : (Jvm.Cond.code ({ cls := "InsuredFlameModel", name := "check", desc := "(I)I" } : Jvm.MethodName) prog_20_method_105_code (3 : Nat) (Option.some Jvm.ClassFile.FieldType.int)) ∈ lw_all := lw_g (lw_at lw_m7 172 rfl) rfl
theorem q1727 : (Jvm.Cond.instanceMethod ({ cls := "InsuredFlameModel", name := "count", desc := "(I)I" } : Jvm.MethodName)) ∈ lw_all := lw_g (lw_at lw_m7 174 rfl) rfl
theorem q1728 : (Jvm.Cond.selects "InsuredFlameModel" ({ cls := "InsuredFlameModel", name := "count", desc := "(I)I" } : Jvm.MethodName) ({ cls := "InsuredFlameModel", name := "count", desc := "(I)I" } : Jvm.MethodName)) ∈ lw_all := lw_g (lw_at lw_m7 175 rfl) rfl
theorem q1729 : (Jvm.Cond.code ({ cls := "InsuredFlameModel", name := "count", desc := "(I)I" } : Jvm.MethodName) prog_20_method_108_code (2 : Nat) (Option.some Jvm.ClassFile.FieldType.int)) ∈ lw_all := lw_g (lw_at lw_m7 176 rfl) rfl
theorem q1730 : (Jvm.Cond.methodLink "InsuredFlameModel" (404 : Nat) ({ cls := "InsuredFlameModel", name := "toldSet", desc := "()I" } : Jvm.MethodName)) ∈ lw_all := lw_g (lw_at lw_m7 177 rfl) rfl
theorem q1731 : (Jvm.Cond.privateMethod ({ cls := "InsuredFlameModel", name := "toldSet", desc := "()I" } : Jvm.MethodName)) ∈ lw_tbl := lw_at lw_m7 178 rfl
theorem q1732 : (Jvm.Cond.instanceMethod ({ cls := "InsuredFlameModel", name := "toldSet", desc := "()I" } : Jvm.MethodName)) ∈ lw_all := lw_g (lw_at lw_m7 179 rfl) rfl
theorem q1733 : (Jvm.Cond.code ({ cls := "InsuredFlameModel", name := "toldSet", desc := "()I" } : Jvm.MethodName) prog_20_method_106_code (3 : Nat) (Option.some Jvm.ClassFile.FieldType.int)) ∈ lw_all := lw_g (lw_at lw_m7 180 rfl) rfl
theorem q1734 : (Jvm.Cond.methodLink "InsuredFlameModel" (407 : Nat) ({ cls := "InsuredFlameModel", name := "lostAll", desc := "()I" } : Jvm.MethodName)) ∈ lw_all := lw_g (lw_at lw_m7 181 rfl) rfl
theorem q1735 : (Jvm.Cond.privateMethod ({ cls := "InsuredFlameModel", name := "lostAll", desc := "()I" } : Jvm.MethodName)) ∈ lw_tbl := lw_at lw_m7 182 rfl
theorem q1736 : (Jvm.Cond.instanceMethod ({ cls := "InsuredFlameModel", name := "lostAll", desc := "()I" } : Jvm.MethodName)) ∈ lw_all := lw_g (lw_at lw_m7 183 rfl) rfl
theorem q1737 : (Jvm.Cond.code ({ cls := "InsuredFlameModel", name := "lostAll", desc := "()I" } : Jvm.MethodName) prog_20_method_107_code (3 : Nat) (Option.some Jvm.ClassFile.FieldType.int)) ∈ lw_all := lw_g (lw_at lw_m7 184 rfl) rfl
theorem in_X6 : ∀ w ∈ wsX60, w ∈ lw_all := lw_in wsX60 [1230, 1232, 1234, 1236, 1238, 1240, 1242, 1244, 1246, 1248, 1250, 1252, 1254, 1256, 1258, 1260, 1262, 1264, 1266, 1268, 1270, 1272, 1274, 1276, 1278, 1280, 1282, 1284, 1286, 1288, 1290, 1292, 1294, 1296, 1298, 1300, 1302, 1304, 1306, 1308, 1310, 1312, 1314, 1316, 1318, 1320] (by decide +kernel) (by decide +kernel)
