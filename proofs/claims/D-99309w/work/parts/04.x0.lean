/-! InsuredFlame -/
set_option maxRecDepth 100000
def RX0 : String := "InsuredFlame"
def TX0 : u_T := fun k => match k with
  | 0 => ("InsuredFlame", "kinds", "[I", true)
  | 1 => ("InsuredFlame", "moment", "LInsuredFlame$Moment;", true)
  | 2 => ("InsuredFlame", "fire", "LInsuredFlame$Fire;", true)
  | 3 => ("InsuredFlame", "then", "LInsuredFlame$Fire;", true)
  | 4 => ("InsuredFlame", "kept", "LInsuredFlame$Fire;", true)
  | 5 => ("InsuredFlame", "tape", "[B", true)
  | 6 => ("InsuredFlame", "law", "LInsuredFlame$Text;", false)
  | 7 => ("InsuredFlame", "taped", "I", false)
  | 8 => ("InsuredFlame", "isKept", "Z", false)
  | 9 => ("InsuredFlame", "sure", "[I", true)
  | 10 => ("InsuredFlame", "goesOn", "[[Z", true)
  | 11 => ("InsuredFlame", "goesThrough", "[Z", true)
  | 12 => ("InsuredFlame", "by", "[I", true)
  | 13 => ("InsuredFlame", "queue", "[I", true)
  | 14 => ("InsuredFlame", "queued", "I", false)
  | 15 => ("InsuredFlame", "gone", "[I", true)
  | _ => ("InsuredFlame", "order", "[I", true)
def tyX0 : Nat → FieldType := fun k => match k with
  | 0 => .array .int
  | 1 => .object "InsuredFlame$Moment"
  | 2 => .object "InsuredFlame$Fire"
  | 3 => .object "InsuredFlame$Fire"
  | 4 => .object "InsuredFlame$Fire"
  | 5 => .array .byte
  | 6 => .object "InsuredFlame$Text"
  | 7 => .int
  | 8 => .boolean
  | 9 => .array .int
  | 10 => .array (.array .boolean)
  | 11 => .array .boolean
  | 12 => .array .int
  | 13 => .array .int
  | 14 => .int
  | 15 => .array .int
  | _ => .array .int
abbrev wsX00 : List Cond := u_ws RX0 TX0 17
set_option maxRecDepth 100000 in
theorem nmX0 : ∀ a, a < 17 → ∀ b, b < 17 → a ≠ b → (TX0 a).2.1 ≠ (TX0 b).2.1 := by decide +kernel
set_option maxRecDepth 100000 in
theorem tyX0_ok : ∀ k, k < 17 → parseFieldDescriptor (TX0 k).2.2.1 = some (tyX0 k) := by decide +kernel
abbrev cX0_init : ByteArray := prog_1_method_7_code
def yX0_init : MethodName := ⟨RX0, "<init>", "()V"⟩
def dkwX0_init_6 : List UInt8 := [180, 0, 47, 4, 181, 0, 92, 177]
abbrev dktX0_init_6 : List UInt8 := dkwX0_init_6 ++ []
def dkwX0_init_5 : List UInt8 := [188, 10, 181, 0, 83, 42, 16, 96, 188, 10, 181, 0, 86, 42, 16, 10, 188, 10, 181, 0, 89, 42]
abbrev dktX0_init_5 : List UInt8 := dkwX0_init_5 ++ dktX0_init_6
def dkwX0_init_4 : List UInt8 := [181, 0, 73, 42, 16, 96, 188, 4, 181, 0, 76, 42, 17, 0, 192, 188, 10, 181, 0, 80, 42, 17, 0, 192]
abbrev dktX0_init_4 : List UInt8 := dkwX0_init_4 ++ dktX0_init_5
def dkwX0_init_3 : List UInt8 := [89, 183, 0, 63, 181, 0, 64, 42, 16, 96, 188, 10, 181, 0, 68, 42, 16, 96, 7, 197, 0, 71, 2]
abbrev dktX0_init_3 : List UInt8 := dkwX0_init_3 ++ dktX0_init_4
def dkwX0_init_2 : List UInt8 := [187, 0, 42, 89, 42, 183, 0, 44, 181, 0, 54, 42, 17, 1, 4, 188, 8, 181, 0, 57, 42, 187, 0, 61]
abbrev dktX0_init_2 : List UInt8 := dkwX0_init_2 ++ dktX0_init_3
def dkwX0_init_1 : List UInt8 := [187, 0, 42, 89, 42, 183, 0, 44, 181, 0, 47, 42, 187, 0, 42, 89, 42, 183, 0, 44, 181, 0, 51, 42]
abbrev dktX0_init_1 : List UInt8 := dkwX0_init_1 ++ dktX0_init_2
def dkwX0_init_0 : List UInt8 := [42, 183, 0, 26, 42, 16, 96, 188, 10, 181, 0, 32, 42, 187, 0, 35, 89, 183, 0, 37, 181, 0, 38, 42]
abbrev dktX0_init_0 : List UInt8 := dkwX0_init_0 ++ dktX0_init_1
theorem dksX0_init_0 : cX0_init.data.toList.drop 0 = dktX0_init_0 := by decide +kernel
theorem dksX0_init_1 : cX0_init.data.toList.drop 24 = dktX0_init_1 := dk_seg dksX0_init_0 24 rfl rfl
theorem dksX0_init_2 : cX0_init.data.toList.drop 48 = dktX0_init_2 := dk_seg dksX0_init_1 24 rfl rfl
theorem dksX0_init_3 : cX0_init.data.toList.drop 72 = dktX0_init_3 := dk_seg dksX0_init_2 24 rfl rfl
theorem dksX0_init_4 : cX0_init.data.toList.drop 95 = dktX0_init_4 := dk_seg dksX0_init_3 23 rfl rfl
theorem dksX0_init_5 : cX0_init.data.toList.drop 119 = dktX0_init_5 := dk_seg dksX0_init_4 24 rfl rfl
theorem dksX0_init_6 : cX0_init.data.toList.drop 141 = dktX0_init_6 := dk_seg dksX0_init_5 22 rfl rfl
theorem dX0_init_0 : decode cX0_init 0 = .ok (.aload_n 0, 1) := dk_42 (dk_at dksX0_init_0 0 rfl rfl)
theorem dX0_init_1 : decode cX0_init 1 = .ok (.invokespecial 26, 3) := dk_183 0 26 (dk_at dksX0_init_0 1 rfl rfl)
theorem dX0_init_4 : decode cX0_init 4 = .ok (.aload_n 0, 1) := dk_42 (dk_at dksX0_init_0 4 rfl rfl)
theorem dX0_init_5 : decode cX0_init 5 = .ok (.bipush 96, 2) := dk_16 96 (dk_at dksX0_init_0 5 rfl rfl)
theorem dX0_init_7 : decode cX0_init 7 = .ok (.newarray .int, 2) := dk_188_10 (dk_at dksX0_init_0 7 rfl rfl)
theorem dX0_init_9 : decode cX0_init 9 = .ok (.putfield 32, 3) := dk_181 0 32 (dk_at dksX0_init_0 9 rfl rfl)
theorem dX0_init_12 : decode cX0_init 12 = .ok (.aload_n 0, 1) := dk_42 (dk_at dksX0_init_0 12 rfl rfl)
theorem dX0_init_13 : decode cX0_init 13 = .ok (.new 35, 3) := dk_187 0 35 (dk_at dksX0_init_0 13 rfl rfl)
theorem dX0_init_16 : decode cX0_init 16 = .ok (.dup, 1) := dk_89 (dk_at dksX0_init_0 16 rfl rfl)
theorem dX0_init_17 : decode cX0_init 17 = .ok (.invokespecial 37, 3) := dk_183 0 37 (dk_at dksX0_init_0 17 rfl rfl)
theorem dX0_init_20 : decode cX0_init 20 = .ok (.putfield 38, 3) := dk_181 0 38 (dk_at dksX0_init_0 20 rfl rfl)
theorem dX0_init_23 : decode cX0_init 23 = .ok (.aload_n 0, 1) := dk_42 (dk_at dksX0_init_0 23 rfl rfl)
theorem dX0_init_24 : decode cX0_init 24 = .ok (.new 42, 3) := dk_187 0 42 (dk_at dksX0_init_1 0 rfl rfl)
theorem dX0_init_27 : decode cX0_init 27 = .ok (.dup, 1) := dk_89 (dk_at dksX0_init_1 3 rfl rfl)
theorem dX0_init_28 : decode cX0_init 28 = .ok (.aload_n 0, 1) := dk_42 (dk_at dksX0_init_1 4 rfl rfl)
theorem dX0_init_29 : decode cX0_init 29 = .ok (.invokespecial 44, 3) := dk_183 0 44 (dk_at dksX0_init_1 5 rfl rfl)
theorem dX0_init_32 : decode cX0_init 32 = .ok (.putfield 47, 3) := dk_181 0 47 (dk_at dksX0_init_1 8 rfl rfl)
theorem dX0_init_35 : decode cX0_init 35 = .ok (.aload_n 0, 1) := dk_42 (dk_at dksX0_init_1 11 rfl rfl)
theorem dX0_init_36 : decode cX0_init 36 = .ok (.new 42, 3) := dk_187 0 42 (dk_at dksX0_init_1 12 rfl rfl)
theorem dX0_init_39 : decode cX0_init 39 = .ok (.dup, 1) := dk_89 (dk_at dksX0_init_1 15 rfl rfl)
theorem dX0_init_40 : decode cX0_init 40 = .ok (.aload_n 0, 1) := dk_42 (dk_at dksX0_init_1 16 rfl rfl)
theorem dX0_init_41 : decode cX0_init 41 = .ok (.invokespecial 44, 3) := dk_183 0 44 (dk_at dksX0_init_1 17 rfl rfl)
theorem dX0_init_44 : decode cX0_init 44 = .ok (.putfield 51, 3) := dk_181 0 51 (dk_at dksX0_init_1 20 rfl rfl)
theorem dX0_init_47 : decode cX0_init 47 = .ok (.aload_n 0, 1) := dk_42 (dk_at dksX0_init_1 23 rfl rfl)
theorem dX0_init_48 : decode cX0_init 48 = .ok (.new 42, 3) := dk_187 0 42 (dk_at dksX0_init_2 0 rfl rfl)
theorem dX0_init_51 : decode cX0_init 51 = .ok (.dup, 1) := dk_89 (dk_at dksX0_init_2 3 rfl rfl)
theorem dX0_init_52 : decode cX0_init 52 = .ok (.aload_n 0, 1) := dk_42 (dk_at dksX0_init_2 4 rfl rfl)
theorem dX0_init_53 : decode cX0_init 53 = .ok (.invokespecial 44, 3) := dk_183 0 44 (dk_at dksX0_init_2 5 rfl rfl)
theorem dX0_init_56 : decode cX0_init 56 = .ok (.putfield 54, 3) := dk_181 0 54 (dk_at dksX0_init_2 8 rfl rfl)
theorem dX0_init_59 : decode cX0_init 59 = .ok (.aload_n 0, 1) := dk_42 (dk_at dksX0_init_2 11 rfl rfl)
theorem dX0_init_60 : decode cX0_init 60 = .ok (.sipush 260, 3) := dk_17 1 4 (dk_at dksX0_init_2 12 rfl rfl)
theorem dX0_init_63 : decode cX0_init 63 = .ok (.newarray .byte, 2) := dk_188_8 (dk_at dksX0_init_2 15 rfl rfl)
theorem dX0_init_65 : decode cX0_init 65 = .ok (.putfield 57, 3) := dk_181 0 57 (dk_at dksX0_init_2 17 rfl rfl)
theorem dX0_init_68 : decode cX0_init 68 = .ok (.aload_n 0, 1) := dk_42 (dk_at dksX0_init_2 20 rfl rfl)
theorem dX0_init_69 : decode cX0_init 69 = .ok (.new 61, 3) := dk_187 0 61 (dk_at dksX0_init_2 21 rfl rfl)
theorem dX0_init_72 : decode cX0_init 72 = .ok (.dup, 1) := dk_89 (dk_at dksX0_init_3 0 rfl rfl)
theorem dX0_init_73 : decode cX0_init 73 = .ok (.invokespecial 63, 3) := dk_183 0 63 (dk_at dksX0_init_3 1 rfl rfl)
theorem dX0_init_76 : decode cX0_init 76 = .ok (.putfield 64, 3) := dk_181 0 64 (dk_at dksX0_init_3 4 rfl rfl)
theorem dX0_init_79 : decode cX0_init 79 = .ok (.aload_n 0, 1) := dk_42 (dk_at dksX0_init_3 7 rfl rfl)
theorem dX0_init_80 : decode cX0_init 80 = .ok (.bipush 96, 2) := dk_16 96 (dk_at dksX0_init_3 8 rfl rfl)
theorem dX0_init_82 : decode cX0_init 82 = .ok (.newarray .int, 2) := dk_188_10 (dk_at dksX0_init_3 10 rfl rfl)
theorem dX0_init_84 : decode cX0_init 84 = .ok (.putfield 68, 3) := dk_181 0 68 (dk_at dksX0_init_3 12 rfl rfl)
theorem dX0_init_87 : decode cX0_init 87 = .ok (.aload_n 0, 1) := dk_42 (dk_at dksX0_init_3 15 rfl rfl)
theorem dX0_init_88 : decode cX0_init 88 = .ok (.bipush 96, 2) := dk_16 96 (dk_at dksX0_init_3 16 rfl rfl)
theorem dX0_init_90 : decode cX0_init 90 = .ok (.iconst 4, 1) := dk_7 (dk_at dksX0_init_3 18 rfl rfl)
theorem dX0_init_91 : decode cX0_init 91 = .ok (.multianewarray 71 2, 4) := by decide +kernel
theorem dX0_init_95 : decode cX0_init 95 = .ok (.putfield 73, 3) := dk_181 0 73 (dk_at dksX0_init_4 0 rfl rfl)
theorem dX0_init_98 : decode cX0_init 98 = .ok (.aload_n 0, 1) := dk_42 (dk_at dksX0_init_4 3 rfl rfl)
theorem dX0_init_99 : decode cX0_init 99 = .ok (.bipush 96, 2) := dk_16 96 (dk_at dksX0_init_4 4 rfl rfl)
theorem dX0_init_101 : decode cX0_init 101 = .ok (.newarray .boolean, 2) := dk_188_4 (dk_at dksX0_init_4 6 rfl rfl)
theorem dX0_init_103 : decode cX0_init 103 = .ok (.putfield 76, 3) := dk_181 0 76 (dk_at dksX0_init_4 8 rfl rfl)
theorem dX0_init_106 : decode cX0_init 106 = .ok (.aload_n 0, 1) := dk_42 (dk_at dksX0_init_4 11 rfl rfl)
theorem dX0_init_107 : decode cX0_init 107 = .ok (.sipush 192, 3) := dk_17 0 192 (dk_at dksX0_init_4 12 rfl rfl)
theorem dX0_init_110 : decode cX0_init 110 = .ok (.newarray .int, 2) := dk_188_10 (dk_at dksX0_init_4 15 rfl rfl)
theorem dX0_init_112 : decode cX0_init 112 = .ok (.putfield 80, 3) := dk_181 0 80 (dk_at dksX0_init_4 17 rfl rfl)
theorem dX0_init_115 : decode cX0_init 115 = .ok (.aload_n 0, 1) := dk_42 (dk_at dksX0_init_4 20 rfl rfl)
theorem dX0_init_116 : decode cX0_init 116 = .ok (.sipush 192, 3) := dk_17 0 192 (dk_at dksX0_init_4 21 rfl rfl)
theorem dX0_init_119 : decode cX0_init 119 = .ok (.newarray .int, 2) := dk_188_10 (dk_at dksX0_init_5 0 rfl rfl)
theorem dX0_init_121 : decode cX0_init 121 = .ok (.putfield 83, 3) := dk_181 0 83 (dk_at dksX0_init_5 2 rfl rfl)
theorem dX0_init_124 : decode cX0_init 124 = .ok (.aload_n 0, 1) := dk_42 (dk_at dksX0_init_5 5 rfl rfl)
theorem dX0_init_125 : decode cX0_init 125 = .ok (.bipush 96, 2) := dk_16 96 (dk_at dksX0_init_5 6 rfl rfl)
theorem dX0_init_127 : decode cX0_init 127 = .ok (.newarray .int, 2) := dk_188_10 (dk_at dksX0_init_5 8 rfl rfl)
theorem dX0_init_129 : decode cX0_init 129 = .ok (.putfield 86, 3) := dk_181 0 86 (dk_at dksX0_init_5 10 rfl rfl)
theorem dX0_init_132 : decode cX0_init 132 = .ok (.aload_n 0, 1) := dk_42 (dk_at dksX0_init_5 13 rfl rfl)
theorem dX0_init_133 : decode cX0_init 133 = .ok (.bipush 10, 2) := dk_16 10 (dk_at dksX0_init_5 14 rfl rfl)
theorem dX0_init_135 : decode cX0_init 135 = .ok (.newarray .int, 2) := dk_188_10 (dk_at dksX0_init_5 16 rfl rfl)
theorem dX0_init_137 : decode cX0_init 137 = .ok (.putfield 89, 3) := dk_181 0 89 (dk_at dksX0_init_5 18 rfl rfl)
theorem dX0_init_140 : decode cX0_init 140 = .ok (.aload_n 0, 1) := dk_42 (dk_at dksX0_init_5 21 rfl rfl)
theorem dX0_init_141 : decode cX0_init 141 = .ok (.getfield 47, 3) := dk_180 0 47 (dk_at dksX0_init_6 0 rfl rfl)
theorem dX0_init_144 : decode cX0_init 144 = .ok (.iconst 1, 1) := dk_4 (dk_at dksX0_init_6 3 rfl rfl)
theorem dX0_init_145 : decode cX0_init 145 = .ok (.putfield 92, 3) := dk_181 0 92 (dk_at dksX0_init_6 4 rfl rfl)
theorem dX0_init_148 : decode cX0_init 148 = .ok (.return_, 1) := dk_177 (dk_at dksX0_init_6 7 rfl rfl)
abbrev cX0_feed : ByteArray := prog_1_method_11_code
def yX0_feed : MethodName := ⟨RX0, "feed", "(IIIII)I"⟩
def dkwX0_feed_2 : List UInt8 := [172]
abbrev dktX0_feed_2 : List UInt8 := dkwX0_feed_2 ++ []
def dkwX0_feed_1 : List UInt8 := [182, 0, 109, 42, 29, 182, 0, 109, 42, 21, 4, 182, 0, 109, 42, 21, 5, 182, 0, 109, 42, 180, 0, 106]
abbrev dktX0_feed_1 : List UInt8 := dkwX0_feed_1 ++ dktX0_feed_2
def dkwX0_feed_0 : List UInt8 := [42, 180, 0, 106, 16, 20, 96, 17, 1, 4, 164, 0, 5, 2, 172, 42, 27, 182, 0, 109, 42, 28]
abbrev dktX0_feed_0 : List UInt8 := dkwX0_feed_0 ++ dktX0_feed_1
theorem dksX0_feed_0 : cX0_feed.data.toList.drop 0 = dktX0_feed_0 := by decide +kernel
theorem dksX0_feed_1 : cX0_feed.data.toList.drop 22 = dktX0_feed_1 := dk_seg dksX0_feed_0 22 rfl rfl
theorem dksX0_feed_2 : cX0_feed.data.toList.drop 46 = dktX0_feed_2 := dk_seg dksX0_feed_1 24 rfl rfl
theorem dX0_feed_0 : decode cX0_feed 0 = .ok (.aload_n 0, 1) := dk_42 (dk_at dksX0_feed_0 0 rfl rfl)
theorem dX0_feed_1 : decode cX0_feed 1 = .ok (.getfield 106, 3) := dk_180 0 106 (dk_at dksX0_feed_0 1 rfl rfl)
theorem dX0_feed_4 : decode cX0_feed 4 = .ok (.bipush 20, 2) := dk_16 20 (dk_at dksX0_feed_0 4 rfl rfl)
theorem dX0_feed_6 : decode cX0_feed 6 = .ok (.iadd, 1) := dk_96 (dk_at dksX0_feed_0 6 rfl rfl)
theorem dX0_feed_7 : decode cX0_feed 7 = .ok (.sipush 260, 3) := dk_17 1 4 (dk_at dksX0_feed_0 7 rfl rfl)
theorem dX0_feed_10 : decode cX0_feed 10 = .ok (.if_icmp .le 5, 3) := dk_164 0 5 (dk_at dksX0_feed_0 10 rfl rfl)
theorem dX0_feed_13 : decode cX0_feed 13 = .ok (.iconst (-1), 1) := dk_2 (dk_at dksX0_feed_0 13 rfl rfl)
theorem dX0_feed_14 : decode cX0_feed 14 = .ok (.ireturn, 1) := dk_172 (dk_at dksX0_feed_0 14 rfl rfl)
theorem dX0_feed_15 : decode cX0_feed 15 = .ok (.aload_n 0, 1) := dk_42 (dk_at dksX0_feed_0 15 rfl rfl)
theorem dX0_feed_16 : decode cX0_feed 16 = .ok (.iload_n 1, 1) := dk_27 (dk_at dksX0_feed_0 16 rfl rfl)
theorem dX0_feed_17 : decode cX0_feed 17 = .ok (.invokevirtual 109, 3) := dk_182 0 109 (dk_at dksX0_feed_0 17 rfl rfl)
theorem dX0_feed_20 : decode cX0_feed 20 = .ok (.aload_n 0, 1) := dk_42 (dk_at dksX0_feed_0 20 rfl rfl)
theorem dX0_feed_21 : decode cX0_feed 21 = .ok (.iload_n 2, 1) := dk_28 (dk_at dksX0_feed_0 21 rfl rfl)
theorem dX0_feed_22 : decode cX0_feed 22 = .ok (.invokevirtual 109, 3) := dk_182 0 109 (dk_at dksX0_feed_1 0 rfl rfl)
theorem dX0_feed_25 : decode cX0_feed 25 = .ok (.aload_n 0, 1) := dk_42 (dk_at dksX0_feed_1 3 rfl rfl)
theorem dX0_feed_26 : decode cX0_feed 26 = .ok (.iload_n 3, 1) := dk_29 (dk_at dksX0_feed_1 4 rfl rfl)
theorem dX0_feed_27 : decode cX0_feed 27 = .ok (.invokevirtual 109, 3) := dk_182 0 109 (dk_at dksX0_feed_1 5 rfl rfl)
theorem dX0_feed_30 : decode cX0_feed 30 = .ok (.aload_n 0, 1) := dk_42 (dk_at dksX0_feed_1 8 rfl rfl)
theorem dX0_feed_31 : decode cX0_feed 31 = .ok (.iload 4, 2) := dk_21 4 (dk_at dksX0_feed_1 9 rfl rfl)
theorem dX0_feed_33 : decode cX0_feed 33 = .ok (.invokevirtual 109, 3) := dk_182 0 109 (dk_at dksX0_feed_1 11 rfl rfl)
theorem dX0_feed_36 : decode cX0_feed 36 = .ok (.aload_n 0, 1) := dk_42 (dk_at dksX0_feed_1 14 rfl rfl)
theorem dX0_feed_37 : decode cX0_feed 37 = .ok (.iload 5, 2) := dk_21 5 (dk_at dksX0_feed_1 15 rfl rfl)
theorem dX0_feed_39 : decode cX0_feed 39 = .ok (.invokevirtual 109, 3) := dk_182 0 109 (dk_at dksX0_feed_1 17 rfl rfl)
theorem dX0_feed_42 : decode cX0_feed 42 = .ok (.aload_n 0, 1) := dk_42 (dk_at dksX0_feed_1 20 rfl rfl)
theorem dX0_feed_43 : decode cX0_feed 43 = .ok (.getfield 106, 3) := dk_180 0 106 (dk_at dksX0_feed_1 21 rfl rfl)
theorem dX0_feed_46 : decode cX0_feed 46 = .ok (.ireturn, 1) := dk_172 (dk_at dksX0_feed_2 0 rfl rfl)
abbrev cX0_push : ByteArray := prog_1_method_10_code
def yX0_push : MethodName := ⟨RX0, "push", "(I)V"⟩
def dkwX0_push_1 : List UInt8 := [180, 0, 106, 4, 96, 181, 0, 106, 132, 2, 248, 167, 255, 226, 177]
abbrev dktX0_push_1 : List UInt8 := dkwX0_push_1 ++ []
def dkwX0_push_0 : List UInt8 := [16, 24, 61, 28, 155, 0, 32, 42, 180, 0, 57, 42, 180, 0, 106, 27, 28, 122, 145, 84, 42, 89]
abbrev dktX0_push_0 : List UInt8 := dkwX0_push_0 ++ dktX0_push_1
theorem dksX0_push_0 : cX0_push.data.toList.drop 0 = dktX0_push_0 := by decide +kernel
theorem dksX0_push_1 : cX0_push.data.toList.drop 22 = dktX0_push_1 := dk_seg dksX0_push_0 22 rfl rfl
theorem dX0_push_0 : decode cX0_push 0 = .ok (.bipush 24, 2) := dk_16 24 (dk_at dksX0_push_0 0 rfl rfl)
theorem dX0_push_2 : decode cX0_push 2 = .ok (.istore_n 2, 1) := dk_61 (dk_at dksX0_push_0 2 rfl rfl)
theorem dX0_push_3 : decode cX0_push 3 = .ok (.iload_n 2, 1) := dk_28 (dk_at dksX0_push_0 3 rfl rfl)
theorem dX0_push_4 : decode cX0_push 4 = .ok (.ifCond .lt 32, 3) := dk_155 0 32 (dk_at dksX0_push_0 4 rfl rfl)
theorem dX0_push_7 : decode cX0_push 7 = .ok (.aload_n 0, 1) := dk_42 (dk_at dksX0_push_0 7 rfl rfl)
theorem dX0_push_8 : decode cX0_push 8 = .ok (.getfield 57, 3) := dk_180 0 57 (dk_at dksX0_push_0 8 rfl rfl)
theorem dX0_push_11 : decode cX0_push 11 = .ok (.aload_n 0, 1) := dk_42 (dk_at dksX0_push_0 11 rfl rfl)
theorem dX0_push_12 : decode cX0_push 12 = .ok (.getfield 106, 3) := dk_180 0 106 (dk_at dksX0_push_0 12 rfl rfl)
theorem dX0_push_15 : decode cX0_push 15 = .ok (.iload_n 1, 1) := dk_27 (dk_at dksX0_push_0 15 rfl rfl)
theorem dX0_push_16 : decode cX0_push 16 = .ok (.iload_n 2, 1) := dk_28 (dk_at dksX0_push_0 16 rfl rfl)
theorem dX0_push_17 : decode cX0_push 17 = .ok (.ishr, 1) := dk_122 (dk_at dksX0_push_0 17 rfl rfl)
theorem dX0_push_18 : decode cX0_push 18 = .ok (.i2b, 1) := dk_145 (dk_at dksX0_push_0 18 rfl rfl)
theorem dX0_push_19 : decode cX0_push 19 = .ok (.bastore, 1) := dk_84 (dk_at dksX0_push_0 19 rfl rfl)
theorem dX0_push_20 : decode cX0_push 20 = .ok (.aload_n 0, 1) := dk_42 (dk_at dksX0_push_0 20 rfl rfl)
theorem dX0_push_21 : decode cX0_push 21 = .ok (.dup, 1) := dk_89 (dk_at dksX0_push_0 21 rfl rfl)
theorem dX0_push_22 : decode cX0_push 22 = .ok (.getfield 106, 3) := dk_180 0 106 (dk_at dksX0_push_1 0 rfl rfl)
theorem dX0_push_25 : decode cX0_push 25 = .ok (.iconst 1, 1) := dk_4 (dk_at dksX0_push_1 3 rfl rfl)
theorem dX0_push_26 : decode cX0_push 26 = .ok (.iadd, 1) := dk_96 (dk_at dksX0_push_1 4 rfl rfl)
theorem dX0_push_27 : decode cX0_push 27 = .ok (.putfield 106, 3) := dk_181 0 106 (dk_at dksX0_push_1 5 rfl rfl)
theorem dX0_push_30 : decode cX0_push 30 = .ok (.iinc 2 (-8), 3) := dk_132 2 248 (dk_at dksX0_push_1 8 rfl rfl)
theorem dX0_push_33 : decode cX0_push 33 = .ok (.goto (-30), 3) := dk_167 255 226 (dk_at dksX0_push_1 11 rfl rfl)
theorem dX0_push_36 : decode cX0_push 36 = .ok (.return_, 1) := dk_177 (dk_at dksX0_push_1 14 rfl rfl)
abbrev cX0_law : ByteArray := prog_1_method_12_code
def yX0_law : MethodName := ⟨RX0, "law", "(I)I"⟩
def dkwX0_law_2 : List UInt8 := [180, 0, 126, 181, 0, 64, 29, 172]
abbrev dktX0_law_2 : List UInt8 := dkwX0_law_2 ++ []
def dkwX0_law_1 : List UInt8 := [181, 0, 106, 187, 0, 117, 89, 42, 27, 183, 0, 119, 77, 44, 182, 0, 122, 62, 29, 155, 0, 11, 42, 44]
abbrev dktX0_law_1 : List UInt8 := dkwX0_law_1 ++ dktX0_law_2
def dkwX0_law_0 : List UInt8 := [27, 4, 17, 0, 240, 184, 0, 113, 153, 0, 11, 27, 42, 180, 0, 106, 164, 0, 5, 2, 172, 42, 3]
abbrev dktX0_law_0 : List UInt8 := dkwX0_law_0 ++ dktX0_law_1
theorem dksX0_law_0 : cX0_law.data.toList.drop 0 = dktX0_law_0 := by decide +kernel
theorem dksX0_law_1 : cX0_law.data.toList.drop 23 = dktX0_law_1 := dk_seg dksX0_law_0 23 rfl rfl
theorem dksX0_law_2 : cX0_law.data.toList.drop 47 = dktX0_law_2 := dk_seg dksX0_law_1 24 rfl rfl
theorem dX0_law_0 : decode cX0_law 0 = .ok (.iload_n 1, 1) := dk_27 (dk_at dksX0_law_0 0 rfl rfl)
theorem dX0_law_1 : decode cX0_law 1 = .ok (.iconst 1, 1) := dk_4 (dk_at dksX0_law_0 1 rfl rfl)
theorem dX0_law_2 : decode cX0_law 2 = .ok (.sipush 240, 3) := dk_17 0 240 (dk_at dksX0_law_0 2 rfl rfl)
theorem dX0_law_5 : decode cX0_law 5 = .ok (.invokestatic 113, 3) := dk_184 0 113 (dk_at dksX0_law_0 5 rfl rfl)
theorem dX0_law_8 : decode cX0_law 8 = .ok (.ifCond .eq 11, 3) := dk_153 0 11 (dk_at dksX0_law_0 8 rfl rfl)
theorem dX0_law_11 : decode cX0_law 11 = .ok (.iload_n 1, 1) := dk_27 (dk_at dksX0_law_0 11 rfl rfl)
theorem dX0_law_12 : decode cX0_law 12 = .ok (.aload_n 0, 1) := dk_42 (dk_at dksX0_law_0 12 rfl rfl)
theorem dX0_law_13 : decode cX0_law 13 = .ok (.getfield 106, 3) := dk_180 0 106 (dk_at dksX0_law_0 13 rfl rfl)
theorem dX0_law_16 : decode cX0_law 16 = .ok (.if_icmp .le 5, 3) := dk_164 0 5 (dk_at dksX0_law_0 16 rfl rfl)
theorem dX0_law_19 : decode cX0_law 19 = .ok (.iconst (-1), 1) := dk_2 (dk_at dksX0_law_0 19 rfl rfl)
theorem dX0_law_20 : decode cX0_law 20 = .ok (.ireturn, 1) := dk_172 (dk_at dksX0_law_0 20 rfl rfl)
theorem dX0_law_21 : decode cX0_law 21 = .ok (.aload_n 0, 1) := dk_42 (dk_at dksX0_law_0 21 rfl rfl)
theorem dX0_law_22 : decode cX0_law 22 = .ok (.iconst 0, 1) := dk_3 (dk_at dksX0_law_0 22 rfl rfl)
theorem dX0_law_23 : decode cX0_law 23 = .ok (.putfield 106, 3) := dk_181 0 106 (dk_at dksX0_law_1 0 rfl rfl)
theorem dX0_law_26 : decode cX0_law 26 = .ok (.new 117, 3) := dk_187 0 117 (dk_at dksX0_law_1 3 rfl rfl)
theorem dX0_law_29 : decode cX0_law 29 = .ok (.dup, 1) := dk_89 (dk_at dksX0_law_1 6 rfl rfl)
theorem dX0_law_30 : decode cX0_law 30 = .ok (.aload_n 0, 1) := dk_42 (dk_at dksX0_law_1 7 rfl rfl)
theorem dX0_law_31 : decode cX0_law 31 = .ok (.iload_n 1, 1) := dk_27 (dk_at dksX0_law_1 8 rfl rfl)
theorem dX0_law_32 : decode cX0_law 32 = .ok (.invokespecial 119, 3) := dk_183 0 119 (dk_at dksX0_law_1 9 rfl rfl)
theorem dX0_law_35 : decode cX0_law 35 = .ok (.astore_n 2, 1) := dk_77 (dk_at dksX0_law_1 12 rfl rfl)
theorem dX0_law_36 : decode cX0_law 36 = .ok (.aload_n 2, 1) := dk_44 (dk_at dksX0_law_1 13 rfl rfl)
theorem dX0_law_37 : decode cX0_law 37 = .ok (.invokevirtual 122, 3) := dk_182 0 122 (dk_at dksX0_law_1 14 rfl rfl)
theorem dX0_law_40 : decode cX0_law 40 = .ok (.istore_n 3, 1) := dk_62 (dk_at dksX0_law_1 17 rfl rfl)
theorem dX0_law_41 : decode cX0_law 41 = .ok (.iload_n 3, 1) := dk_29 (dk_at dksX0_law_1 18 rfl rfl)
theorem dX0_law_42 : decode cX0_law 42 = .ok (.ifCond .lt 11, 3) := dk_155 0 11 (dk_at dksX0_law_1 19 rfl rfl)
theorem dX0_law_45 : decode cX0_law 45 = .ok (.aload_n 0, 1) := dk_42 (dk_at dksX0_law_1 22 rfl rfl)
theorem dX0_law_46 : decode cX0_law 46 = .ok (.aload_n 2, 1) := dk_44 (dk_at dksX0_law_1 23 rfl rfl)
theorem dX0_law_47 : decode cX0_law 47 = .ok (.getfield 126, 3) := dk_180 0 126 (dk_at dksX0_law_2 0 rfl rfl)
theorem dX0_law_50 : decode cX0_law 50 = .ok (.putfield 64, 3) := dk_181 0 64 (dk_at dksX0_law_2 3 rfl rfl)
theorem dX0_law_53 : decode cX0_law 53 = .ok (.iload_n 3, 1) := dk_29 (dk_at dksX0_law_2 6 rfl rfl)
theorem dX0_law_54 : decode cX0_law 54 = .ok (.ireturn, 1) := dk_172 (dk_at dksX0_law_2 7 rfl rfl)
abbrev cX0_within : ByteArray := prog_1_method_2_code
def yX0_within : MethodName := ⟨RX0, "within", "(III)Z"⟩
def dkwX0_within_0 : List UInt8 := [26, 27, 161, 0, 12, 26, 28, 163, 0, 7, 4, 167, 0, 4, 3, 172]
abbrev dktX0_within_0 : List UInt8 := dkwX0_within_0 ++ []
theorem dksX0_within_0 : cX0_within.data.toList.drop 0 = dktX0_within_0 := by decide +kernel
theorem dX0_within_0 : decode cX0_within 0 = .ok (.iload_n 0, 1) := dk_26 (dk_at dksX0_within_0 0 rfl rfl)
theorem dX0_within_1 : decode cX0_within 1 = .ok (.iload_n 1, 1) := dk_27 (dk_at dksX0_within_0 1 rfl rfl)
theorem dX0_within_2 : decode cX0_within 2 = .ok (.if_icmp .lt 12, 3) := dk_161 0 12 (dk_at dksX0_within_0 2 rfl rfl)
theorem dX0_within_5 : decode cX0_within 5 = .ok (.iload_n 0, 1) := dk_26 (dk_at dksX0_within_0 5 rfl rfl)
theorem dX0_within_6 : decode cX0_within 6 = .ok (.iload_n 2, 1) := dk_28 (dk_at dksX0_within_0 6 rfl rfl)
theorem dX0_within_7 : decode cX0_within 7 = .ok (.if_icmp .gt 7, 3) := dk_163 0 7 (dk_at dksX0_within_0 7 rfl rfl)
theorem dX0_within_10 : decode cX0_within 10 = .ok (.iconst 1, 1) := dk_4 (dk_at dksX0_within_0 10 rfl rfl)
theorem dX0_within_11 : decode cX0_within 11 = .ok (.goto 4, 3) := dk_167 0 4 (dk_at dksX0_within_0 11 rfl rfl)
theorem dX0_within_14 : decode cX0_within 14 = .ok (.iconst 0, 1) := dk_3 (dk_at dksX0_within_0 14 rfl rfl)
theorem dX0_within_15 : decode cX0_within 15 = .ok (.ireturn, 1) := dk_172 (dk_at dksX0_within_0 15 rfl rfl)
abbrev cX0_town : ByteArray := prog_1_method_13_code
def yX0_town : MethodName := ⟨RX0, "town", "(I)I"⟩
def dkwX0_town_3 : List UInt8 := [132, 4, 1, 167, 255, 232, 42, 180, 0, 47, 182, 0, 136, 29, 172]
abbrev dktX0_town_3 : List UInt8 := dkwX0_town_3 ++ []
def dkwX0_town_2 : List UInt8 := [3, 54, 4, 21, 4, 16, 96, 162, 0, 23, 42, 180, 0, 32, 21, 4, 44, 180, 0, 133, 21, 4, 46, 79]
abbrev dktX0_town_2 : List UInt8 := dkwX0_town_2 ++ dktX0_town_3
def dkwX0_town_1 : List UInt8 := [181, 0, 106, 187, 0, 129, 89, 42, 27, 183, 0, 131, 77, 44, 182, 0, 132, 62, 29, 156, 0, 5, 29, 172]
abbrev dktX0_town_1 : List UInt8 := dkwX0_town_1 ++ dktX0_town_2
def dkwX0_town_0 : List UInt8 := [27, 4, 16, 120, 184, 0, 113, 153, 0, 11, 27, 42, 180, 0, 106, 164, 0, 5, 2, 172, 42, 3]
abbrev dktX0_town_0 : List UInt8 := dkwX0_town_0 ++ dktX0_town_1
theorem dksX0_town_0 : cX0_town.data.toList.drop 0 = dktX0_town_0 := by decide +kernel
theorem dksX0_town_1 : cX0_town.data.toList.drop 22 = dktX0_town_1 := dk_seg dksX0_town_0 22 rfl rfl
theorem dksX0_town_2 : cX0_town.data.toList.drop 46 = dktX0_town_2 := dk_seg dksX0_town_1 24 rfl rfl
theorem dksX0_town_3 : cX0_town.data.toList.drop 70 = dktX0_town_3 := dk_seg dksX0_town_2 24 rfl rfl
theorem dX0_town_0 : decode cX0_town 0 = .ok (.iload_n 1, 1) := dk_27 (dk_at dksX0_town_0 0 rfl rfl)
theorem dX0_town_1 : decode cX0_town 1 = .ok (.iconst 1, 1) := dk_4 (dk_at dksX0_town_0 1 rfl rfl)
theorem dX0_town_2 : decode cX0_town 2 = .ok (.bipush 120, 2) := dk_16 120 (dk_at dksX0_town_0 2 rfl rfl)
theorem dX0_town_4 : decode cX0_town 4 = .ok (.invokestatic 113, 3) := dk_184 0 113 (dk_at dksX0_town_0 4 rfl rfl)
theorem dX0_town_7 : decode cX0_town 7 = .ok (.ifCond .eq 11, 3) := dk_153 0 11 (dk_at dksX0_town_0 7 rfl rfl)
theorem dX0_town_10 : decode cX0_town 10 = .ok (.iload_n 1, 1) := dk_27 (dk_at dksX0_town_0 10 rfl rfl)
theorem dX0_town_11 : decode cX0_town 11 = .ok (.aload_n 0, 1) := dk_42 (dk_at dksX0_town_0 11 rfl rfl)
theorem dX0_town_12 : decode cX0_town 12 = .ok (.getfield 106, 3) := dk_180 0 106 (dk_at dksX0_town_0 12 rfl rfl)
theorem dX0_town_15 : decode cX0_town 15 = .ok (.if_icmp .le 5, 3) := dk_164 0 5 (dk_at dksX0_town_0 15 rfl rfl)
theorem dX0_town_18 : decode cX0_town 18 = .ok (.iconst (-1), 1) := dk_2 (dk_at dksX0_town_0 18 rfl rfl)
theorem dX0_town_19 : decode cX0_town 19 = .ok (.ireturn, 1) := dk_172 (dk_at dksX0_town_0 19 rfl rfl)
theorem dX0_town_20 : decode cX0_town 20 = .ok (.aload_n 0, 1) := dk_42 (dk_at dksX0_town_0 20 rfl rfl)
theorem dX0_town_21 : decode cX0_town 21 = .ok (.iconst 0, 1) := dk_3 (dk_at dksX0_town_0 21 rfl rfl)
theorem dX0_town_22 : decode cX0_town 22 = .ok (.putfield 106, 3) := dk_181 0 106 (dk_at dksX0_town_1 0 rfl rfl)
theorem dX0_town_25 : decode cX0_town 25 = .ok (.new 129, 3) := dk_187 0 129 (dk_at dksX0_town_1 3 rfl rfl)
theorem dX0_town_28 : decode cX0_town 28 = .ok (.dup, 1) := dk_89 (dk_at dksX0_town_1 6 rfl rfl)
theorem dX0_town_29 : decode cX0_town 29 = .ok (.aload_n 0, 1) := dk_42 (dk_at dksX0_town_1 7 rfl rfl)
theorem dX0_town_30 : decode cX0_town 30 = .ok (.iload_n 1, 1) := dk_27 (dk_at dksX0_town_1 8 rfl rfl)
theorem dX0_town_31 : decode cX0_town 31 = .ok (.invokespecial 131, 3) := dk_183 0 131 (dk_at dksX0_town_1 9 rfl rfl)
theorem dX0_town_34 : decode cX0_town 34 = .ok (.astore_n 2, 1) := dk_77 (dk_at dksX0_town_1 12 rfl rfl)
theorem dX0_town_35 : decode cX0_town 35 = .ok (.aload_n 2, 1) := dk_44 (dk_at dksX0_town_1 13 rfl rfl)
theorem dX0_town_36 : decode cX0_town 36 = .ok (.invokevirtual 132, 3) := dk_182 0 132 (dk_at dksX0_town_1 14 rfl rfl)
theorem dX0_town_39 : decode cX0_town 39 = .ok (.istore_n 3, 1) := dk_62 (dk_at dksX0_town_1 17 rfl rfl)
theorem dX0_town_40 : decode cX0_town 40 = .ok (.iload_n 3, 1) := dk_29 (dk_at dksX0_town_1 18 rfl rfl)
theorem dX0_town_41 : decode cX0_town 41 = .ok (.ifCond .ge 5, 3) := dk_156 0 5 (dk_at dksX0_town_1 19 rfl rfl)
theorem dX0_town_44 : decode cX0_town 44 = .ok (.iload_n 3, 1) := dk_29 (dk_at dksX0_town_1 22 rfl rfl)
theorem dX0_town_45 : decode cX0_town 45 = .ok (.ireturn, 1) := dk_172 (dk_at dksX0_town_1 23 rfl rfl)
theorem dX0_town_46 : decode cX0_town 46 = .ok (.iconst 0, 1) := dk_3 (dk_at dksX0_town_2 0 rfl rfl)
theorem dX0_town_47 : decode cX0_town 47 = .ok (.istore 4, 2) := dk_54 4 (dk_at dksX0_town_2 1 rfl rfl)
theorem dX0_town_49 : decode cX0_town 49 = .ok (.iload 4, 2) := dk_21 4 (dk_at dksX0_town_2 3 rfl rfl)
theorem dX0_town_51 : decode cX0_town 51 = .ok (.bipush 96, 2) := dk_16 96 (dk_at dksX0_town_2 5 rfl rfl)
theorem dX0_town_53 : decode cX0_town 53 = .ok (.if_icmp .ge 23, 3) := dk_162 0 23 (dk_at dksX0_town_2 7 rfl rfl)
theorem dX0_town_56 : decode cX0_town 56 = .ok (.aload_n 0, 1) := dk_42 (dk_at dksX0_town_2 10 rfl rfl)
theorem dX0_town_57 : decode cX0_town 57 = .ok (.getfield 32, 3) := dk_180 0 32 (dk_at dksX0_town_2 11 rfl rfl)
theorem dX0_town_60 : decode cX0_town 60 = .ok (.iload 4, 2) := dk_21 4 (dk_at dksX0_town_2 14 rfl rfl)
theorem dX0_town_62 : decode cX0_town 62 = .ok (.aload_n 2, 1) := dk_44 (dk_at dksX0_town_2 16 rfl rfl)
theorem dX0_town_63 : decode cX0_town 63 = .ok (.getfield 133, 3) := dk_180 0 133 (dk_at dksX0_town_2 17 rfl rfl)
theorem dX0_town_66 : decode cX0_town 66 = .ok (.iload 4, 2) := dk_21 4 (dk_at dksX0_town_2 20 rfl rfl)
theorem dX0_town_68 : decode cX0_town 68 = .ok (.iaload, 1) := dk_46 (dk_at dksX0_town_2 22 rfl rfl)
theorem dX0_town_69 : decode cX0_town 69 = .ok (.iastore, 1) := dk_79 (dk_at dksX0_town_2 23 rfl rfl)
theorem dX0_town_70 : decode cX0_town 70 = .ok (.iinc 4 1, 3) := dk_132 4 1 (dk_at dksX0_town_3 0 rfl rfl)
theorem dX0_town_73 : decode cX0_town 73 = .ok (.goto (-24), 3) := dk_167 255 232 (dk_at dksX0_town_3 3 rfl rfl)
theorem dX0_town_76 : decode cX0_town 76 = .ok (.aload_n 0, 1) := dk_42 (dk_at dksX0_town_3 6 rfl rfl)
theorem dX0_town_77 : decode cX0_town 77 = .ok (.getfield 47, 3) := dk_180 0 47 (dk_at dksX0_town_3 7 rfl rfl)
theorem dX0_town_80 : decode cX0_town 80 = .ok (.invokevirtual 136, 3) := dk_182 0 136 (dk_at dksX0_town_3 10 rfl rfl)
theorem dX0_town_83 : decode cX0_town 83 = .ok (.iload_n 3, 1) := dk_29 (dk_at dksX0_town_3 13 rfl rfl)
theorem dX0_town_84 : decode cX0_town 84 = .ok (.ireturn, 1) := dk_172 (dk_at dksX0_town_3 14 rfl rfl)
abbrev cX0_orders : ByteArray := prog_1_method_14_code
def yX0_orders : MethodName := ⟨RX0, "orders", "(I)I"⟩
def dkwX0_orders_4 : List UInt8 := [167, 255, 228, 42, 180, 0, 47, 42, 180, 0, 51, 182, 0, 139, 77, 21, 4, 172]
abbrev dktX0_orders_4 : List UInt8 := dkwX0_orders_4 ++ []
def dkwX0_orders_3 : List UInt8 := [162, 0, 27, 45, 180, 0, 147, 21, 5, 51, 153, 0, 11, 42, 180, 0, 32, 21, 5, 6, 79, 132, 5, 1]
abbrev dktX0_orders_3 : List UInt8 := dkwX0_orders_3 ++ dktX0_orders_4
def dkwX0_orders_2 : List UInt8 := [78, 45, 182, 0, 146, 54, 4, 21, 4, 156, 0, 6, 21, 4, 172, 3, 54, 5, 21, 5, 16, 96]
abbrev dktX0_orders_2 : List UInt8 := dkwX0_orders_2 ++ dktX0_orders_3
def dkwX0_orders_1 : List UInt8 := [181, 0, 106, 42, 180, 0, 51, 42, 180, 0, 47, 182, 0, 139, 77, 187, 0, 143, 89, 42, 27, 183, 0, 145]
abbrev dktX0_orders_1 : List UInt8 := dkwX0_orders_1 ++ dktX0_orders_2
def dkwX0_orders_0 : List UInt8 := [27, 4, 16, 120, 184, 0, 113, 153, 0, 11, 27, 42, 180, 0, 106, 164, 0, 5, 2, 172, 42, 3]
abbrev dktX0_orders_0 : List UInt8 := dkwX0_orders_0 ++ dktX0_orders_1
theorem dksX0_orders_0 : cX0_orders.data.toList.drop 0 = dktX0_orders_0 := by decide +kernel
theorem dksX0_orders_1 : cX0_orders.data.toList.drop 22 = dktX0_orders_1 := dk_seg dksX0_orders_0 22 rfl rfl
theorem dksX0_orders_2 : cX0_orders.data.toList.drop 46 = dktX0_orders_2 := dk_seg dksX0_orders_1 24 rfl rfl
theorem dksX0_orders_3 : cX0_orders.data.toList.drop 68 = dktX0_orders_3 := dk_seg dksX0_orders_2 22 rfl rfl
theorem dksX0_orders_4 : cX0_orders.data.toList.drop 92 = dktX0_orders_4 := dk_seg dksX0_orders_3 24 rfl rfl
theorem dX0_orders_0 : decode cX0_orders 0 = .ok (.iload_n 1, 1) := dk_27 (dk_at dksX0_orders_0 0 rfl rfl)
theorem dX0_orders_1 : decode cX0_orders 1 = .ok (.iconst 1, 1) := dk_4 (dk_at dksX0_orders_0 1 rfl rfl)
theorem dX0_orders_2 : decode cX0_orders 2 = .ok (.bipush 120, 2) := dk_16 120 (dk_at dksX0_orders_0 2 rfl rfl)
theorem dX0_orders_4 : decode cX0_orders 4 = .ok (.invokestatic 113, 3) := dk_184 0 113 (dk_at dksX0_orders_0 4 rfl rfl)
theorem dX0_orders_7 : decode cX0_orders 7 = .ok (.ifCond .eq 11, 3) := dk_153 0 11 (dk_at dksX0_orders_0 7 rfl rfl)
theorem dX0_orders_10 : decode cX0_orders 10 = .ok (.iload_n 1, 1) := dk_27 (dk_at dksX0_orders_0 10 rfl rfl)
theorem dX0_orders_11 : decode cX0_orders 11 = .ok (.aload_n 0, 1) := dk_42 (dk_at dksX0_orders_0 11 rfl rfl)
theorem dX0_orders_12 : decode cX0_orders 12 = .ok (.getfield 106, 3) := dk_180 0 106 (dk_at dksX0_orders_0 12 rfl rfl)
theorem dX0_orders_15 : decode cX0_orders 15 = .ok (.if_icmp .le 5, 3) := dk_164 0 5 (dk_at dksX0_orders_0 15 rfl rfl)
theorem dX0_orders_18 : decode cX0_orders 18 = .ok (.iconst (-1), 1) := dk_2 (dk_at dksX0_orders_0 18 rfl rfl)
theorem dX0_orders_19 : decode cX0_orders 19 = .ok (.ireturn, 1) := dk_172 (dk_at dksX0_orders_0 19 rfl rfl)
theorem dX0_orders_20 : decode cX0_orders 20 = .ok (.aload_n 0, 1) := dk_42 (dk_at dksX0_orders_0 20 rfl rfl)
theorem dX0_orders_21 : decode cX0_orders 21 = .ok (.iconst 0, 1) := dk_3 (dk_at dksX0_orders_0 21 rfl rfl)
theorem dX0_orders_22 : decode cX0_orders 22 = .ok (.putfield 106, 3) := dk_181 0 106 (dk_at dksX0_orders_1 0 rfl rfl)
theorem dX0_orders_25 : decode cX0_orders 25 = .ok (.aload_n 0, 1) := dk_42 (dk_at dksX0_orders_1 3 rfl rfl)
theorem dX0_orders_26 : decode cX0_orders 26 = .ok (.getfield 51, 3) := dk_180 0 51 (dk_at dksX0_orders_1 4 rfl rfl)
theorem dX0_orders_29 : decode cX0_orders 29 = .ok (.aload_n 0, 1) := dk_42 (dk_at dksX0_orders_1 7 rfl rfl)
theorem dX0_orders_30 : decode cX0_orders 30 = .ok (.getfield 47, 3) := dk_180 0 47 (dk_at dksX0_orders_1 8 rfl rfl)
theorem dX0_orders_33 : decode cX0_orders 33 = .ok (.invokevirtual 139, 3) := dk_182 0 139 (dk_at dksX0_orders_1 11 rfl rfl)
theorem dX0_orders_36 : decode cX0_orders 36 = .ok (.astore_n 2, 1) := dk_77 (dk_at dksX0_orders_1 14 rfl rfl)
theorem dX0_orders_37 : decode cX0_orders 37 = .ok (.new 143, 3) := dk_187 0 143 (dk_at dksX0_orders_1 15 rfl rfl)
theorem dX0_orders_40 : decode cX0_orders 40 = .ok (.dup, 1) := dk_89 (dk_at dksX0_orders_1 18 rfl rfl)
theorem dX0_orders_41 : decode cX0_orders 41 = .ok (.aload_n 0, 1) := dk_42 (dk_at dksX0_orders_1 19 rfl rfl)
theorem dX0_orders_42 : decode cX0_orders 42 = .ok (.iload_n 1, 1) := dk_27 (dk_at dksX0_orders_1 20 rfl rfl)
theorem dX0_orders_43 : decode cX0_orders 43 = .ok (.invokespecial 145, 3) := dk_183 0 145 (dk_at dksX0_orders_1 21 rfl rfl)
theorem dX0_orders_46 : decode cX0_orders 46 = .ok (.astore_n 3, 1) := dk_78 (dk_at dksX0_orders_2 0 rfl rfl)
theorem dX0_orders_47 : decode cX0_orders 47 = .ok (.aload_n 3, 1) := dk_45 (dk_at dksX0_orders_2 1 rfl rfl)
theorem dX0_orders_48 : decode cX0_orders 48 = .ok (.invokevirtual 146, 3) := dk_182 0 146 (dk_at dksX0_orders_2 2 rfl rfl)
theorem dX0_orders_51 : decode cX0_orders 51 = .ok (.istore 4, 2) := dk_54 4 (dk_at dksX0_orders_2 5 rfl rfl)
theorem dX0_orders_53 : decode cX0_orders 53 = .ok (.iload 4, 2) := dk_21 4 (dk_at dksX0_orders_2 7 rfl rfl)
theorem dX0_orders_55 : decode cX0_orders 55 = .ok (.ifCond .ge 6, 3) := dk_156 0 6 (dk_at dksX0_orders_2 9 rfl rfl)
theorem dX0_orders_58 : decode cX0_orders 58 = .ok (.iload 4, 2) := dk_21 4 (dk_at dksX0_orders_2 12 rfl rfl)
theorem dX0_orders_60 : decode cX0_orders 60 = .ok (.ireturn, 1) := dk_172 (dk_at dksX0_orders_2 14 rfl rfl)
theorem dX0_orders_61 : decode cX0_orders 61 = .ok (.iconst 0, 1) := dk_3 (dk_at dksX0_orders_2 15 rfl rfl)
theorem dX0_orders_62 : decode cX0_orders 62 = .ok (.istore 5, 2) := dk_54 5 (dk_at dksX0_orders_2 16 rfl rfl)
theorem dX0_orders_64 : decode cX0_orders 64 = .ok (.iload 5, 2) := dk_21 5 (dk_at dksX0_orders_2 18 rfl rfl)
theorem dX0_orders_66 : decode cX0_orders 66 = .ok (.bipush 96, 2) := dk_16 96 (dk_at dksX0_orders_2 20 rfl rfl)
theorem dX0_orders_68 : decode cX0_orders 68 = .ok (.if_icmp .ge 27, 3) := dk_162 0 27 (dk_at dksX0_orders_3 0 rfl rfl)
theorem dX0_orders_71 : decode cX0_orders 71 = .ok (.aload_n 3, 1) := dk_45 (dk_at dksX0_orders_3 3 rfl rfl)
theorem dX0_orders_72 : decode cX0_orders 72 = .ok (.getfield 147, 3) := dk_180 0 147 (dk_at dksX0_orders_3 4 rfl rfl)
theorem dX0_orders_75 : decode cX0_orders 75 = .ok (.iload 5, 2) := dk_21 5 (dk_at dksX0_orders_3 7 rfl rfl)
theorem dX0_orders_77 : decode cX0_orders 77 = .ok (.baload, 1) := dk_51 (dk_at dksX0_orders_3 9 rfl rfl)
theorem dX0_orders_78 : decode cX0_orders 78 = .ok (.ifCond .eq 11, 3) := dk_153 0 11 (dk_at dksX0_orders_3 10 rfl rfl)
theorem dX0_orders_81 : decode cX0_orders 81 = .ok (.aload_n 0, 1) := dk_42 (dk_at dksX0_orders_3 13 rfl rfl)
theorem dX0_orders_82 : decode cX0_orders 82 = .ok (.getfield 32, 3) := dk_180 0 32 (dk_at dksX0_orders_3 14 rfl rfl)
theorem dX0_orders_85 : decode cX0_orders 85 = .ok (.iload 5, 2) := dk_21 5 (dk_at dksX0_orders_3 17 rfl rfl)
theorem dX0_orders_87 : decode cX0_orders 87 = .ok (.iconst 3, 1) := dk_6 (dk_at dksX0_orders_3 19 rfl rfl)
theorem dX0_orders_88 : decode cX0_orders 88 = .ok (.iastore, 1) := dk_79 (dk_at dksX0_orders_3 20 rfl rfl)
theorem dX0_orders_89 : decode cX0_orders 89 = .ok (.iinc 5 1, 3) := dk_132 5 1 (dk_at dksX0_orders_3 21 rfl rfl)
theorem dX0_orders_92 : decode cX0_orders 92 = .ok (.goto (-28), 3) := dk_167 255 228 (dk_at dksX0_orders_4 0 rfl rfl)
theorem dX0_orders_95 : decode cX0_orders 95 = .ok (.aload_n 0, 1) := dk_42 (dk_at dksX0_orders_4 3 rfl rfl)
theorem dX0_orders_96 : decode cX0_orders 96 = .ok (.getfield 47, 3) := dk_180 0 47 (dk_at dksX0_orders_4 4 rfl rfl)
theorem dX0_orders_99 : decode cX0_orders 99 = .ok (.aload_n 0, 1) := dk_42 (dk_at dksX0_orders_4 7 rfl rfl)
theorem dX0_orders_100 : decode cX0_orders 100 = .ok (.getfield 51, 3) := dk_180 0 51 (dk_at dksX0_orders_4 8 rfl rfl)
theorem dX0_orders_103 : decode cX0_orders 103 = .ok (.invokevirtual 139, 3) := dk_182 0 139 (dk_at dksX0_orders_4 11 rfl rfl)
theorem dX0_orders_106 : decode cX0_orders 106 = .ok (.astore_n 2, 1) := dk_77 (dk_at dksX0_orders_4 14 rfl rfl)
theorem dX0_orders_107 : decode cX0_orders 107 = .ok (.iload 4, 2) := dk_21 4 (dk_at dksX0_orders_4 15 rfl rfl)
theorem dX0_orders_109 : decode cX0_orders 109 = .ok (.ireturn, 1) := dk_172 (dk_at dksX0_orders_4 17 rfl rfl)
abbrev cX0_minutes : ByteArray := prog_1_method_15_code
def yX0_minutes : MethodName := ⟨RX0, "minutes", "(I)I"⟩
def dkwX0_minutes_1 : List UInt8 := [167, 0, 4, 2, 172]
abbrev dktX0_minutes_1 : List UInt8 := dkwX0_minutes_1 ++ []
def dkwX0_minutes_0 : List UInt8 := [27, 4, 16, 100, 184, 0, 113, 153, 0, 18, 42, 180, 0, 47, 27, 182, 0, 150, 4, 182, 0, 154]
abbrev dktX0_minutes_0 : List UInt8 := dkwX0_minutes_0 ++ dktX0_minutes_1
theorem dksX0_minutes_0 : cX0_minutes.data.toList.drop 0 = dktX0_minutes_0 := by decide +kernel
theorem dksX0_minutes_1 : cX0_minutes.data.toList.drop 22 = dktX0_minutes_1 := dk_seg dksX0_minutes_0 22 rfl rfl
theorem dX0_minutes_0 : decode cX0_minutes 0 = .ok (.iload_n 1, 1) := dk_27 (dk_at dksX0_minutes_0 0 rfl rfl)
theorem dX0_minutes_1 : decode cX0_minutes 1 = .ok (.iconst 1, 1) := dk_4 (dk_at dksX0_minutes_0 1 rfl rfl)
theorem dX0_minutes_2 : decode cX0_minutes 2 = .ok (.bipush 100, 2) := dk_16 100 (dk_at dksX0_minutes_0 2 rfl rfl)
theorem dX0_minutes_4 : decode cX0_minutes 4 = .ok (.invokestatic 113, 3) := dk_184 0 113 (dk_at dksX0_minutes_0 4 rfl rfl)
theorem dX0_minutes_7 : decode cX0_minutes 7 = .ok (.ifCond .eq 18, 3) := dk_153 0 18 (dk_at dksX0_minutes_0 7 rfl rfl)
theorem dX0_minutes_10 : decode cX0_minutes 10 = .ok (.aload_n 0, 1) := dk_42 (dk_at dksX0_minutes_0 10 rfl rfl)
theorem dX0_minutes_11 : decode cX0_minutes 11 = .ok (.getfield 47, 3) := dk_180 0 47 (dk_at dksX0_minutes_0 11 rfl rfl)
theorem dX0_minutes_14 : decode cX0_minutes 14 = .ok (.iload_n 1, 1) := dk_27 (dk_at dksX0_minutes_0 14 rfl rfl)
theorem dX0_minutes_15 : decode cX0_minutes 15 = .ok (.invokevirtual 150, 3) := dk_182 0 150 (dk_at dksX0_minutes_0 15 rfl rfl)
theorem dX0_minutes_18 : decode cX0_minutes 18 = .ok (.iconst 1, 1) := dk_4 (dk_at dksX0_minutes_0 18 rfl rfl)
theorem dX0_minutes_19 : decode cX0_minutes 19 = .ok (.invokevirtual 154, 3) := dk_182 0 154 (dk_at dksX0_minutes_0 19 rfl rfl)
theorem dX0_minutes_22 : decode cX0_minutes 22 = .ok (.goto 4, 3) := dk_167 0 4 (dk_at dksX0_minutes_1 0 rfl rfl)
theorem dX0_minutes_25 : decode cX0_minutes 25 = .ok (.iconst (-1), 1) := dk_2 (dk_at dksX0_minutes_1 3 rfl rfl)
theorem dX0_minutes_26 : decode cX0_minutes 26 = .ok (.ireturn, 1) := dk_172 (dk_at dksX0_minutes_1 4 rfl rfl)
abbrev cX0_next : ByteArray := prog_1_method_6_code
def yX0_next : MethodName := ⟨RX0, "next", "(II)I"⟩
def dkwX0_next_0 : List UInt8 := [26, 16, 12, 112, 178, 0, 16, 27, 46, 96, 26, 16, 12, 108, 178, 0, 20, 27, 46, 96, 184, 0, 23, 172]
abbrev dktX0_next_0 : List UInt8 := dkwX0_next_0 ++ []
theorem dksX0_next_0 : cX0_next.data.toList.drop 0 = dktX0_next_0 := by decide +kernel
theorem dX0_next_0 : decode cX0_next 0 = .ok (.iload_n 0, 1) := dk_26 (dk_at dksX0_next_0 0 rfl rfl)
theorem dX0_next_1 : decode cX0_next 1 = .ok (.bipush 12, 2) := dk_16 12 (dk_at dksX0_next_0 1 rfl rfl)
theorem dX0_next_3 : decode cX0_next 3 = .ok (.irem, 1) := dk_112 (dk_at dksX0_next_0 3 rfl rfl)
theorem dX0_next_4 : decode cX0_next 4 = .ok (.getstatic 16, 3) := dk_178 0 16 (dk_at dksX0_next_0 4 rfl rfl)
theorem dX0_next_7 : decode cX0_next 7 = .ok (.iload_n 1, 1) := dk_27 (dk_at dksX0_next_0 7 rfl rfl)
theorem dX0_next_8 : decode cX0_next 8 = .ok (.iaload, 1) := dk_46 (dk_at dksX0_next_0 8 rfl rfl)
theorem dX0_next_9 : decode cX0_next 9 = .ok (.iadd, 1) := dk_96 (dk_at dksX0_next_0 9 rfl rfl)
theorem dX0_next_10 : decode cX0_next 10 = .ok (.iload_n 0, 1) := dk_26 (dk_at dksX0_next_0 10 rfl rfl)
theorem dX0_next_11 : decode cX0_next 11 = .ok (.bipush 12, 2) := dk_16 12 (dk_at dksX0_next_0 11 rfl rfl)
theorem dX0_next_13 : decode cX0_next 13 = .ok (.idiv, 1) := dk_108 (dk_at dksX0_next_0 13 rfl rfl)
theorem dX0_next_14 : decode cX0_next 14 = .ok (.getstatic 20, 3) := dk_178 0 20 (dk_at dksX0_next_0 14 rfl rfl)
theorem dX0_next_17 : decode cX0_next 17 = .ok (.iload_n 1, 1) := dk_27 (dk_at dksX0_next_0 17 rfl rfl)
theorem dX0_next_18 : decode cX0_next 18 = .ok (.iaload, 1) := dk_46 (dk_at dksX0_next_0 18 rfl rfl)
theorem dX0_next_19 : decode cX0_next 19 = .ok (.iadd, 1) := dk_96 (dk_at dksX0_next_0 19 rfl rfl)
theorem dX0_next_20 : decode cX0_next 20 = .ok (.invokestatic 23, 3) := dk_184 0 23 (dk_at dksX0_next_0 20 rfl rfl)
theorem dX0_next_23 : decode cX0_next 23 = .ok (.ireturn, 1) := dk_172 (dk_at dksX0_next_0 23 rfl rfl)
abbrev cX0_placeAt : ByteArray := prog_1_method_5_code
def yX0_placeAt : MethodName := ⟨RX0, "placeAt", "(II)I"⟩
def dkwX0_placeAt_1 : List UInt8 := [167, 0, 4, 2, 172]
abbrev dktX0_placeAt_1 : List UInt8 := dkwX0_placeAt_1 ++ []
def dkwX0_placeAt_0 : List UInt8 := [26, 16, 12, 184, 0, 12, 153, 0, 21, 27, 16, 8, 184, 0, 12, 153, 0, 12, 16, 12, 27, 104, 26, 96]
abbrev dktX0_placeAt_0 : List UInt8 := dkwX0_placeAt_0 ++ dktX0_placeAt_1
theorem dksX0_placeAt_0 : cX0_placeAt.data.toList.drop 0 = dktX0_placeAt_0 := by decide +kernel
theorem dksX0_placeAt_1 : cX0_placeAt.data.toList.drop 24 = dktX0_placeAt_1 := dk_seg dksX0_placeAt_0 24 rfl rfl
theorem dX0_placeAt_0 : decode cX0_placeAt 0 = .ok (.iload_n 0, 1) := dk_26 (dk_at dksX0_placeAt_0 0 rfl rfl)
theorem dX0_placeAt_1 : decode cX0_placeAt 1 = .ok (.bipush 12, 2) := dk_16 12 (dk_at dksX0_placeAt_0 1 rfl rfl)
theorem dX0_placeAt_3 : decode cX0_placeAt 3 = .ok (.invokestatic 12, 3) := dk_184 0 12 (dk_at dksX0_placeAt_0 3 rfl rfl)
theorem dX0_placeAt_6 : decode cX0_placeAt 6 = .ok (.ifCond .eq 21, 3) := dk_153 0 21 (dk_at dksX0_placeAt_0 6 rfl rfl)
theorem dX0_placeAt_9 : decode cX0_placeAt 9 = .ok (.iload_n 1, 1) := dk_27 (dk_at dksX0_placeAt_0 9 rfl rfl)
theorem dX0_placeAt_10 : decode cX0_placeAt 10 = .ok (.bipush 8, 2) := dk_16 8 (dk_at dksX0_placeAt_0 10 rfl rfl)
theorem dX0_placeAt_12 : decode cX0_placeAt 12 = .ok (.invokestatic 12, 3) := dk_184 0 12 (dk_at dksX0_placeAt_0 12 rfl rfl)
theorem dX0_placeAt_15 : decode cX0_placeAt 15 = .ok (.ifCond .eq 12, 3) := dk_153 0 12 (dk_at dksX0_placeAt_0 15 rfl rfl)
theorem dX0_placeAt_18 : decode cX0_placeAt 18 = .ok (.bipush 12, 2) := dk_16 12 (dk_at dksX0_placeAt_0 18 rfl rfl)
theorem dX0_placeAt_20 : decode cX0_placeAt 20 = .ok (.iload_n 1, 1) := dk_27 (dk_at dksX0_placeAt_0 20 rfl rfl)
theorem dX0_placeAt_21 : decode cX0_placeAt 21 = .ok (.imul, 1) := dk_104 (dk_at dksX0_placeAt_0 21 rfl rfl)
theorem dX0_placeAt_22 : decode cX0_placeAt 22 = .ok (.iload_n 0, 1) := dk_26 (dk_at dksX0_placeAt_0 22 rfl rfl)
theorem dX0_placeAt_23 : decode cX0_placeAt 23 = .ok (.iadd, 1) := dk_96 (dk_at dksX0_placeAt_0 23 rfl rfl)
theorem dX0_placeAt_24 : decode cX0_placeAt 24 = .ok (.goto 4, 3) := dk_167 0 4 (dk_at dksX0_placeAt_1 0 rfl rfl)
theorem dX0_placeAt_27 : decode cX0_placeAt 27 = .ok (.iconst (-1), 1) := dk_2 (dk_at dksX0_placeAt_1 3 rfl rfl)
theorem dX0_placeAt_28 : decode cX0_placeAt 28 = .ok (.ireturn, 1) := dk_172 (dk_at dksX0_placeAt_1 4 rfl rfl)
abbrev cX0_in : ByteArray := prog_1_method_1_code
def yX0_in : MethodName := ⟨RX0, "in", "(II)Z"⟩
def dkwX0_in_0 : List UInt8 := [26, 155, 0, 12, 26, 27, 162, 0, 7, 4, 167, 0, 4, 3, 172]
abbrev dktX0_in_0 : List UInt8 := dkwX0_in_0 ++ []
theorem dksX0_in_0 : cX0_in.data.toList.drop 0 = dktX0_in_0 := by decide +kernel
theorem dX0_in_0 : decode cX0_in 0 = .ok (.iload_n 0, 1) := dk_26 (dk_at dksX0_in_0 0 rfl rfl)
theorem dX0_in_1 : decode cX0_in 1 = .ok (.ifCond .lt 12, 3) := dk_155 0 12 (dk_at dksX0_in_0 1 rfl rfl)
theorem dX0_in_4 : decode cX0_in 4 = .ok (.iload_n 0, 1) := dk_26 (dk_at dksX0_in_0 4 rfl rfl)
theorem dX0_in_5 : decode cX0_in 5 = .ok (.iload_n 1, 1) := dk_27 (dk_at dksX0_in_0 5 rfl rfl)
theorem dX0_in_6 : decode cX0_in 6 = .ok (.if_icmp .ge 7, 3) := dk_162 0 7 (dk_at dksX0_in_0 6 rfl rfl)
theorem dX0_in_9 : decode cX0_in 9 = .ok (.iconst 1, 1) := dk_4 (dk_at dksX0_in_0 9 rfl rfl)
theorem dX0_in_10 : decode cX0_in 10 = .ok (.goto 4, 3) := dk_167 0 4 (dk_at dksX0_in_0 10 rfl rfl)
theorem dX0_in_13 : decode cX0_in 13 = .ok (.iconst 0, 1) := dk_3 (dk_at dksX0_in_0 13 rfl rfl)
theorem dX0_in_14 : decode cX0_in 14 = .ok (.ireturn, 1) := dk_172 (dk_at dksX0_in_0 14 rfl rfl)
abbrev cX0_held : ByteArray := prog_1_method_4_code
def yX0_held : MethodName := ⟨RX0, "held", "(II)I"⟩
def dkwX0_held_0 : List UInt8 := [3, 27, 26, 184, 0, 1, 184, 0, 7, 172]
abbrev dktX0_held_0 : List UInt8 := dkwX0_held_0 ++ []
theorem dksX0_held_0 : cX0_held.data.toList.drop 0 = dktX0_held_0 := by decide +kernel
theorem dX0_held_0 : decode cX0_held 0 = .ok (.iconst 0, 1) := dk_3 (dk_at dksX0_held_0 0 rfl rfl)
theorem dX0_held_1 : decode cX0_held 1 = .ok (.iload_n 1, 1) := dk_27 (dk_at dksX0_held_0 1 rfl rfl)
theorem dX0_held_2 : decode cX0_held 2 = .ok (.iload_n 0, 1) := dk_26 (dk_at dksX0_held_0 2 rfl rfl)
theorem dX0_held_3 : decode cX0_held 3 = .ok (.invokestatic 1, 3) := dk_184 0 1 (dk_at dksX0_held_0 3 rfl rfl)
theorem dX0_held_6 : decode cX0_held 6 = .ok (.invokestatic 7, 3) := dk_184 0 7 (dk_at dksX0_held_0 6 rfl rfl)
theorem dX0_held_9 : decode cX0_held 9 = .ok (.ireturn, 1) := dk_172 (dk_at dksX0_held_0 9 rfl rfl)
abbrev cX0_tried : ByteArray := prog_1_method_17_code
def yX0_tried : MethodName := ⟨RX0, "tried", "(II)I"⟩
def dkwX0_tried_5 : List UInt8 := [172]
abbrev dktX0_tried_5 : List UInt8 := dkwX0_tried_5 ++ []
def dkwX0_tried_4 : List UInt8 := [182, 0, 164, 42, 180, 0, 47, 182, 0, 164, 100, 172, 42, 180, 0, 51, 182, 0, 167, 172, 42, 182, 0, 169]
abbrev dktX0_tried_4 : List UInt8 := dkwX0_tried_4 ++ dktX0_tried_5
def dkwX0_tried_3 : List UInt8 := [42, 180, 0, 51, 4, 182, 0, 154, 172, 42, 180, 0, 51, 5, 182, 0, 154, 172, 42, 180, 0, 51]
abbrev dktX0_tried_3 : List UInt8 := dkwX0_tried_3 ++ dktX0_tried_4
def dkwX0_tried_2 : List UInt8 := [170, 0, 0, 0, 0, 0, 73, 0, 0, 0, 0, 0, 0, 0, 3, 0, 0, 0, 31, 0, 0, 0, 40, 0, 0, 0, 49, 0, 0, 0, 65]
abbrev dktX0_tried_2 : List UInt8 := dkwX0_tried_2 ++ dktX0_tried_3
def dkwX0_tried_1 : List UInt8 := [42, 180, 0, 47, 182, 0, 139, 27, 182, 0, 150, 87, 28]
abbrev dktX0_tried_1 : List UInt8 := dkwX0_tried_1 ++ dktX0_tried_2
def dkwX0_tried_0 : List UInt8 := [27, 4, 16, 100, 184, 0, 113, 153, 0, 11, 28, 8, 184, 0, 12, 154, 0, 5, 2, 172, 42, 180, 0, 51]
abbrev dktX0_tried_0 : List UInt8 := dkwX0_tried_0 ++ dktX0_tried_1
theorem dksX0_tried_0 : cX0_tried.data.toList.drop 0 = dktX0_tried_0 := by decide +kernel
theorem dksX0_tried_1 : cX0_tried.data.toList.drop 24 = dktX0_tried_1 := dk_seg dksX0_tried_0 24 rfl rfl
theorem dksX0_tried_2 : cX0_tried.data.toList.drop 37 = dktX0_tried_2 := dk_seg dksX0_tried_1 13 rfl rfl
theorem dksX0_tried_3 : cX0_tried.data.toList.drop 68 = dktX0_tried_3 := dk_seg dksX0_tried_2 31 rfl rfl
theorem dksX0_tried_4 : cX0_tried.data.toList.drop 90 = dktX0_tried_4 := dk_seg dksX0_tried_3 22 rfl rfl
theorem dksX0_tried_5 : cX0_tried.data.toList.drop 114 = dktX0_tried_5 := dk_seg dksX0_tried_4 24 rfl rfl
theorem dX0_tried_0 : decode cX0_tried 0 = .ok (.iload_n 1, 1) := dk_27 (dk_at dksX0_tried_0 0 rfl rfl)
theorem dX0_tried_1 : decode cX0_tried 1 = .ok (.iconst 1, 1) := dk_4 (dk_at dksX0_tried_0 1 rfl rfl)
theorem dX0_tried_2 : decode cX0_tried 2 = .ok (.bipush 100, 2) := dk_16 100 (dk_at dksX0_tried_0 2 rfl rfl)
theorem dX0_tried_4 : decode cX0_tried 4 = .ok (.invokestatic 113, 3) := dk_184 0 113 (dk_at dksX0_tried_0 4 rfl rfl)
theorem dX0_tried_7 : decode cX0_tried 7 = .ok (.ifCond .eq 11, 3) := dk_153 0 11 (dk_at dksX0_tried_0 7 rfl rfl)
theorem dX0_tried_10 : decode cX0_tried 10 = .ok (.iload_n 2, 1) := dk_28 (dk_at dksX0_tried_0 10 rfl rfl)
theorem dX0_tried_11 : decode cX0_tried 11 = .ok (.iconst 5, 1) := dk_8 (dk_at dksX0_tried_0 11 rfl rfl)
theorem dX0_tried_12 : decode cX0_tried 12 = .ok (.invokestatic 12, 3) := dk_184 0 12 (dk_at dksX0_tried_0 12 rfl rfl)
theorem dX0_tried_15 : decode cX0_tried 15 = .ok (.ifCond .ne 5, 3) := dk_154 0 5 (dk_at dksX0_tried_0 15 rfl rfl)
theorem dX0_tried_18 : decode cX0_tried 18 = .ok (.iconst (-1), 1) := dk_2 (dk_at dksX0_tried_0 18 rfl rfl)
theorem dX0_tried_19 : decode cX0_tried 19 = .ok (.ireturn, 1) := dk_172 (dk_at dksX0_tried_0 19 rfl rfl)
theorem dX0_tried_20 : decode cX0_tried 20 = .ok (.aload_n 0, 1) := dk_42 (dk_at dksX0_tried_0 20 rfl rfl)
theorem dX0_tried_21 : decode cX0_tried 21 = .ok (.getfield 51, 3) := dk_180 0 51 (dk_at dksX0_tried_0 21 rfl rfl)
theorem dX0_tried_24 : decode cX0_tried 24 = .ok (.aload_n 0, 1) := dk_42 (dk_at dksX0_tried_1 0 rfl rfl)
theorem dX0_tried_25 : decode cX0_tried 25 = .ok (.getfield 47, 3) := dk_180 0 47 (dk_at dksX0_tried_1 1 rfl rfl)
theorem dX0_tried_28 : decode cX0_tried 28 = .ok (.invokevirtual 139, 3) := dk_182 0 139 (dk_at dksX0_tried_1 4 rfl rfl)
theorem dX0_tried_31 : decode cX0_tried 31 = .ok (.iload_n 1, 1) := dk_27 (dk_at dksX0_tried_1 7 rfl rfl)
theorem dX0_tried_32 : decode cX0_tried 32 = .ok (.invokevirtual 150, 3) := dk_182 0 150 (dk_at dksX0_tried_1 8 rfl rfl)
theorem dX0_tried_35 : decode cX0_tried 35 = .ok (.pop, 1) := dk_87 (dk_at dksX0_tried_1 11 rfl rfl)
theorem dX0_tried_36 : decode cX0_tried 36 = .ok (.iload_n 2, 1) := dk_28 (dk_at dksX0_tried_1 12 rfl rfl)
theorem dX0_tried_37 : decode cX0_tried 37 = .ok (.tableswitch 73 0 3 #[31, 40, 49, 65], 31) := by decide +kernel
theorem dX0_tried_68 : decode cX0_tried 68 = .ok (.aload_n 0, 1) := dk_42 (dk_at dksX0_tried_3 0 rfl rfl)
theorem dX0_tried_69 : decode cX0_tried 69 = .ok (.getfield 51, 3) := dk_180 0 51 (dk_at dksX0_tried_3 1 rfl rfl)
theorem dX0_tried_72 : decode cX0_tried 72 = .ok (.iconst 1, 1) := dk_4 (dk_at dksX0_tried_3 4 rfl rfl)
theorem dX0_tried_73 : decode cX0_tried 73 = .ok (.invokevirtual 154, 3) := dk_182 0 154 (dk_at dksX0_tried_3 5 rfl rfl)
theorem dX0_tried_76 : decode cX0_tried 76 = .ok (.ireturn, 1) := dk_172 (dk_at dksX0_tried_3 8 rfl rfl)
theorem dX0_tried_77 : decode cX0_tried 77 = .ok (.aload_n 0, 1) := dk_42 (dk_at dksX0_tried_3 9 rfl rfl)
theorem dX0_tried_78 : decode cX0_tried 78 = .ok (.getfield 51, 3) := dk_180 0 51 (dk_at dksX0_tried_3 10 rfl rfl)
theorem dX0_tried_81 : decode cX0_tried 81 = .ok (.iconst 2, 1) := dk_5 (dk_at dksX0_tried_3 13 rfl rfl)
theorem dX0_tried_82 : decode cX0_tried 82 = .ok (.invokevirtual 154, 3) := dk_182 0 154 (dk_at dksX0_tried_3 14 rfl rfl)
theorem dX0_tried_85 : decode cX0_tried 85 = .ok (.ireturn, 1) := dk_172 (dk_at dksX0_tried_3 17 rfl rfl)
theorem dX0_tried_86 : decode cX0_tried 86 = .ok (.aload_n 0, 1) := dk_42 (dk_at dksX0_tried_3 18 rfl rfl)
theorem dX0_tried_87 : decode cX0_tried 87 = .ok (.getfield 51, 3) := dk_180 0 51 (dk_at dksX0_tried_3 19 rfl rfl)
theorem dX0_tried_90 : decode cX0_tried 90 = .ok (.invokevirtual 164, 3) := dk_182 0 164 (dk_at dksX0_tried_4 0 rfl rfl)
theorem dX0_tried_93 : decode cX0_tried 93 = .ok (.aload_n 0, 1) := dk_42 (dk_at dksX0_tried_4 3 rfl rfl)
theorem dX0_tried_94 : decode cX0_tried 94 = .ok (.getfield 47, 3) := dk_180 0 47 (dk_at dksX0_tried_4 4 rfl rfl)
theorem dX0_tried_97 : decode cX0_tried 97 = .ok (.invokevirtual 164, 3) := dk_182 0 164 (dk_at dksX0_tried_4 7 rfl rfl)
theorem dX0_tried_100 : decode cX0_tried 100 = .ok (.isub, 1) := dk_100 (dk_at dksX0_tried_4 10 rfl rfl)
theorem dX0_tried_101 : decode cX0_tried 101 = .ok (.ireturn, 1) := dk_172 (dk_at dksX0_tried_4 11 rfl rfl)
theorem dX0_tried_102 : decode cX0_tried 102 = .ok (.aload_n 0, 1) := dk_42 (dk_at dksX0_tried_4 12 rfl rfl)
theorem dX0_tried_103 : decode cX0_tried 103 = .ok (.getfield 51, 3) := dk_180 0 51 (dk_at dksX0_tried_4 13 rfl rfl)
theorem dX0_tried_106 : decode cX0_tried 106 = .ok (.invokevirtual 167, 3) := dk_182 0 167 (dk_at dksX0_tried_4 16 rfl rfl)
theorem dX0_tried_109 : decode cX0_tried 109 = .ok (.ireturn, 1) := dk_172 (dk_at dksX0_tried_4 19 rfl rfl)
theorem dX0_tried_110 : decode cX0_tried 110 = .ok (.aload_n 0, 1) := dk_42 (dk_at dksX0_tried_4 20 rfl rfl)
theorem dX0_tried_111 : decode cX0_tried 111 = .ok (.invokevirtual 169, 3) := dk_182 0 169 (dk_at dksX0_tried_4 21 rfl rfl)
theorem dX0_tried_114 : decode cX0_tried 114 = .ok (.ireturn, 1) := dk_172 (dk_at dksX0_tried_5 0 rfl rfl)
abbrev cX0_sumsLeft : ByteArray := prog_1_method_16_code
def yX0_sumsLeft : MethodName := ⟨RX0, "sumsLeft", "()I"⟩
def dkwX0_sumsLeft_1 : List UInt8 := [167, 0, 11, 42, 180, 0, 51, 28, 182, 0, 161, 96, 60, 132, 2, 1, 167, 255, 220, 27, 172]
abbrev dktX0_sumsLeft_1 : List UInt8 := dkwX0_sumsLeft_1 ++ []
def dkwX0_sumsLeft_0 : List UInt8 := [3, 60, 3, 61, 28, 16, 96, 162, 0, 36, 27, 42, 180, 0, 51, 180, 0, 158, 28, 46, 154, 0, 7, 3]
abbrev dktX0_sumsLeft_0 : List UInt8 := dkwX0_sumsLeft_0 ++ dktX0_sumsLeft_1
theorem dksX0_sumsLeft_0 : cX0_sumsLeft.data.toList.drop 0 = dktX0_sumsLeft_0 := by decide +kernel
theorem dksX0_sumsLeft_1 : cX0_sumsLeft.data.toList.drop 24 = dktX0_sumsLeft_1 := dk_seg dksX0_sumsLeft_0 24 rfl rfl
theorem dX0_sumsLeft_0 : decode cX0_sumsLeft 0 = .ok (.iconst 0, 1) := dk_3 (dk_at dksX0_sumsLeft_0 0 rfl rfl)
theorem dX0_sumsLeft_1 : decode cX0_sumsLeft 1 = .ok (.istore_n 1, 1) := dk_60 (dk_at dksX0_sumsLeft_0 1 rfl rfl)
theorem dX0_sumsLeft_2 : decode cX0_sumsLeft 2 = .ok (.iconst 0, 1) := dk_3 (dk_at dksX0_sumsLeft_0 2 rfl rfl)
theorem dX0_sumsLeft_3 : decode cX0_sumsLeft 3 = .ok (.istore_n 2, 1) := dk_61 (dk_at dksX0_sumsLeft_0 3 rfl rfl)
theorem dX0_sumsLeft_4 : decode cX0_sumsLeft 4 = .ok (.iload_n 2, 1) := dk_28 (dk_at dksX0_sumsLeft_0 4 rfl rfl)
theorem dX0_sumsLeft_5 : decode cX0_sumsLeft 5 = .ok (.bipush 96, 2) := dk_16 96 (dk_at dksX0_sumsLeft_0 5 rfl rfl)
theorem dX0_sumsLeft_7 : decode cX0_sumsLeft 7 = .ok (.if_icmp .ge 36, 3) := dk_162 0 36 (dk_at dksX0_sumsLeft_0 7 rfl rfl)
theorem dX0_sumsLeft_10 : decode cX0_sumsLeft 10 = .ok (.iload_n 1, 1) := dk_27 (dk_at dksX0_sumsLeft_0 10 rfl rfl)
theorem dX0_sumsLeft_11 : decode cX0_sumsLeft 11 = .ok (.aload_n 0, 1) := dk_42 (dk_at dksX0_sumsLeft_0 11 rfl rfl)
theorem dX0_sumsLeft_12 : decode cX0_sumsLeft 12 = .ok (.getfield 51, 3) := dk_180 0 51 (dk_at dksX0_sumsLeft_0 12 rfl rfl)
theorem dX0_sumsLeft_15 : decode cX0_sumsLeft 15 = .ok (.getfield 158, 3) := dk_180 0 158 (dk_at dksX0_sumsLeft_0 15 rfl rfl)
theorem dX0_sumsLeft_18 : decode cX0_sumsLeft 18 = .ok (.iload_n 2, 1) := dk_28 (dk_at dksX0_sumsLeft_0 18 rfl rfl)
theorem dX0_sumsLeft_19 : decode cX0_sumsLeft 19 = .ok (.iaload, 1) := dk_46 (dk_at dksX0_sumsLeft_0 19 rfl rfl)
theorem dX0_sumsLeft_20 : decode cX0_sumsLeft 20 = .ok (.ifCond .ne 7, 3) := dk_154 0 7 (dk_at dksX0_sumsLeft_0 20 rfl rfl)
theorem dX0_sumsLeft_23 : decode cX0_sumsLeft 23 = .ok (.iconst 0, 1) := dk_3 (dk_at dksX0_sumsLeft_0 23 rfl rfl)
theorem dX0_sumsLeft_24 : decode cX0_sumsLeft 24 = .ok (.goto 11, 3) := dk_167 0 11 (dk_at dksX0_sumsLeft_1 0 rfl rfl)
theorem dX0_sumsLeft_27 : decode cX0_sumsLeft 27 = .ok (.aload_n 0, 1) := dk_42 (dk_at dksX0_sumsLeft_1 3 rfl rfl)
theorem dX0_sumsLeft_28 : decode cX0_sumsLeft 28 = .ok (.getfield 51, 3) := dk_180 0 51 (dk_at dksX0_sumsLeft_1 4 rfl rfl)
theorem dX0_sumsLeft_31 : decode cX0_sumsLeft 31 = .ok (.iload_n 2, 1) := dk_28 (dk_at dksX0_sumsLeft_1 7 rfl rfl)
theorem dX0_sumsLeft_32 : decode cX0_sumsLeft 32 = .ok (.invokevirtual 161, 3) := dk_182 0 161 (dk_at dksX0_sumsLeft_1 8 rfl rfl)
theorem dX0_sumsLeft_35 : decode cX0_sumsLeft 35 = .ok (.iadd, 1) := dk_96 (dk_at dksX0_sumsLeft_1 11 rfl rfl)
theorem dX0_sumsLeft_36 : decode cX0_sumsLeft 36 = .ok (.istore_n 1, 1) := dk_60 (dk_at dksX0_sumsLeft_1 12 rfl rfl)
theorem dX0_sumsLeft_37 : decode cX0_sumsLeft 37 = .ok (.iinc 2 1, 3) := dk_132 2 1 (dk_at dksX0_sumsLeft_1 13 rfl rfl)
theorem dX0_sumsLeft_40 : decode cX0_sumsLeft 40 = .ok (.goto (-36), 3) := dk_167 255 220 (dk_at dksX0_sumsLeft_1 16 rfl rfl)
theorem dX0_sumsLeft_43 : decode cX0_sumsLeft 43 = .ok (.iload_n 1, 1) := dk_27 (dk_at dksX0_sumsLeft_1 19 rfl rfl)
theorem dX0_sumsLeft_44 : decode cX0_sumsLeft 44 = .ok (.ireturn, 1) := dk_172 (dk_at dksX0_sumsLeft_1 20 rfl rfl)
abbrev cX0_placeIs : ByteArray := prog_1_method_18_code
def yX0_placeIs : MethodName := ⟨RX0, "placeIs", "(III)I"⟩
def dkwX0_placeIs_4 : List UInt8 := [182, 0, 178, 172, 42, 180, 0, 47, 21, 4, 182, 0, 161, 172, 2, 172]
abbrev dktX0_placeIs_4 : List UInt8 := dkwX0_placeIs_4 ++ []
def dkwX0_placeIs_3 : List UInt8 := [180, 0, 172, 21, 4, 46, 172, 42, 180, 0, 47, 21, 4, 182, 0, 175, 172, 42, 180, 0, 47, 21, 4]
abbrev dktX0_placeIs_3 : List UInt8 := dkwX0_placeIs_3 ++ dktX0_placeIs_4
def dkwX0_placeIs_2 : List UInt8 := [42, 180, 0, 32, 21, 4, 46, 172, 42, 180, 0, 47, 180, 0, 158, 21, 4, 46, 172, 42, 180, 0, 47]
abbrev dktX0_placeIs_2 : List UInt8 := dkwX0_placeIs_2 ++ dktX0_placeIs_3
def dkwX0_placeIs_1 : List UInt8 := [170, 0, 0, 0, 0, 0, 0, 100, 0, 0, 0, 0, 0, 0, 0, 5, 0, 0, 0, 40, 0, 0, 0, 48, 0, 0, 0, 59, 0, 0, 0, 70, 0, 0, 0, 80, 0, 0, 0, 90]
abbrev dktX0_placeIs_1 : List UInt8 := dkwX0_placeIs_1 ++ dktX0_placeIs_2
def dkwX0_placeIs_0 : List UInt8 := [27, 28, 184, 0, 23, 54, 4, 21, 4, 2, 160, 0, 5, 2, 172, 29]
abbrev dktX0_placeIs_0 : List UInt8 := dkwX0_placeIs_0 ++ dktX0_placeIs_1
theorem dksX0_placeIs_0 : cX0_placeIs.data.toList.drop 0 = dktX0_placeIs_0 := by decide +kernel
theorem dksX0_placeIs_1 : cX0_placeIs.data.toList.drop 16 = dktX0_placeIs_1 := dk_seg dksX0_placeIs_0 16 rfl rfl
theorem dksX0_placeIs_2 : cX0_placeIs.data.toList.drop 56 = dktX0_placeIs_2 := dk_seg dksX0_placeIs_1 40 rfl rfl
theorem dksX0_placeIs_3 : cX0_placeIs.data.toList.drop 79 = dktX0_placeIs_3 := dk_seg dksX0_placeIs_2 23 rfl rfl
theorem dksX0_placeIs_4 : cX0_placeIs.data.toList.drop 102 = dktX0_placeIs_4 := dk_seg dksX0_placeIs_3 23 rfl rfl
theorem dX0_placeIs_0 : decode cX0_placeIs 0 = .ok (.iload_n 1, 1) := dk_27 (dk_at dksX0_placeIs_0 0 rfl rfl)
theorem dX0_placeIs_1 : decode cX0_placeIs 1 = .ok (.iload_n 2, 1) := dk_28 (dk_at dksX0_placeIs_0 1 rfl rfl)
theorem dX0_placeIs_2 : decode cX0_placeIs 2 = .ok (.invokestatic 23, 3) := dk_184 0 23 (dk_at dksX0_placeIs_0 2 rfl rfl)
theorem dX0_placeIs_5 : decode cX0_placeIs 5 = .ok (.istore 4, 2) := dk_54 4 (dk_at dksX0_placeIs_0 5 rfl rfl)
theorem dX0_placeIs_7 : decode cX0_placeIs 7 = .ok (.iload 4, 2) := dk_21 4 (dk_at dksX0_placeIs_0 7 rfl rfl)
theorem dX0_placeIs_9 : decode cX0_placeIs 9 = .ok (.iconst (-1), 1) := dk_2 (dk_at dksX0_placeIs_0 9 rfl rfl)
theorem dX0_placeIs_10 : decode cX0_placeIs 10 = .ok (.if_icmp .ne 5, 3) := dk_160 0 5 (dk_at dksX0_placeIs_0 10 rfl rfl)
theorem dX0_placeIs_13 : decode cX0_placeIs 13 = .ok (.iconst (-1), 1) := dk_2 (dk_at dksX0_placeIs_0 13 rfl rfl)
theorem dX0_placeIs_14 : decode cX0_placeIs 14 = .ok (.ireturn, 1) := dk_172 (dk_at dksX0_placeIs_0 14 rfl rfl)
theorem dX0_placeIs_15 : decode cX0_placeIs 15 = .ok (.iload_n 3, 1) := dk_29 (dk_at dksX0_placeIs_0 15 rfl rfl)
theorem dX0_placeIs_16 : decode cX0_placeIs 16 = .ok (.tableswitch 100 0 5 #[40, 48, 59, 70, 80, 90], 40) := by decide +kernel
theorem dX0_placeIs_56 : decode cX0_placeIs 56 = .ok (.aload_n 0, 1) := dk_42 (dk_at dksX0_placeIs_2 0 rfl rfl)
theorem dX0_placeIs_57 : decode cX0_placeIs 57 = .ok (.getfield 32, 3) := dk_180 0 32 (dk_at dksX0_placeIs_2 1 rfl rfl)
theorem dX0_placeIs_60 : decode cX0_placeIs 60 = .ok (.iload 4, 2) := dk_21 4 (dk_at dksX0_placeIs_2 4 rfl rfl)
theorem dX0_placeIs_62 : decode cX0_placeIs 62 = .ok (.iaload, 1) := dk_46 (dk_at dksX0_placeIs_2 6 rfl rfl)
theorem dX0_placeIs_63 : decode cX0_placeIs 63 = .ok (.ireturn, 1) := dk_172 (dk_at dksX0_placeIs_2 7 rfl rfl)
theorem dX0_placeIs_64 : decode cX0_placeIs 64 = .ok (.aload_n 0, 1) := dk_42 (dk_at dksX0_placeIs_2 8 rfl rfl)
theorem dX0_placeIs_65 : decode cX0_placeIs 65 = .ok (.getfield 47, 3) := dk_180 0 47 (dk_at dksX0_placeIs_2 9 rfl rfl)
theorem dX0_placeIs_68 : decode cX0_placeIs 68 = .ok (.getfield 158, 3) := dk_180 0 158 (dk_at dksX0_placeIs_2 12 rfl rfl)
theorem dX0_placeIs_71 : decode cX0_placeIs 71 = .ok (.iload 4, 2) := dk_21 4 (dk_at dksX0_placeIs_2 15 rfl rfl)
theorem dX0_placeIs_73 : decode cX0_placeIs 73 = .ok (.iaload, 1) := dk_46 (dk_at dksX0_placeIs_2 17 rfl rfl)
theorem dX0_placeIs_74 : decode cX0_placeIs 74 = .ok (.ireturn, 1) := dk_172 (dk_at dksX0_placeIs_2 18 rfl rfl)
theorem dX0_placeIs_75 : decode cX0_placeIs 75 = .ok (.aload_n 0, 1) := dk_42 (dk_at dksX0_placeIs_2 19 rfl rfl)
theorem dX0_placeIs_76 : decode cX0_placeIs 76 = .ok (.getfield 47, 3) := dk_180 0 47 (dk_at dksX0_placeIs_2 20 rfl rfl)
theorem dX0_placeIs_79 : decode cX0_placeIs 79 = .ok (.getfield 172, 3) := dk_180 0 172 (dk_at dksX0_placeIs_3 0 rfl rfl)
theorem dX0_placeIs_82 : decode cX0_placeIs 82 = .ok (.iload 4, 2) := dk_21 4 (dk_at dksX0_placeIs_3 3 rfl rfl)
theorem dX0_placeIs_84 : decode cX0_placeIs 84 = .ok (.iaload, 1) := dk_46 (dk_at dksX0_placeIs_3 5 rfl rfl)
theorem dX0_placeIs_85 : decode cX0_placeIs 85 = .ok (.ireturn, 1) := dk_172 (dk_at dksX0_placeIs_3 6 rfl rfl)
theorem dX0_placeIs_86 : decode cX0_placeIs 86 = .ok (.aload_n 0, 1) := dk_42 (dk_at dksX0_placeIs_3 7 rfl rfl)
theorem dX0_placeIs_87 : decode cX0_placeIs 87 = .ok (.getfield 47, 3) := dk_180 0 47 (dk_at dksX0_placeIs_3 8 rfl rfl)
theorem dX0_placeIs_90 : decode cX0_placeIs 90 = .ok (.iload 4, 2) := dk_21 4 (dk_at dksX0_placeIs_3 11 rfl rfl)
theorem dX0_placeIs_92 : decode cX0_placeIs 92 = .ok (.invokevirtual 175, 3) := dk_182 0 175 (dk_at dksX0_placeIs_3 13 rfl rfl)
theorem dX0_placeIs_95 : decode cX0_placeIs 95 = .ok (.ireturn, 1) := dk_172 (dk_at dksX0_placeIs_3 16 rfl rfl)
theorem dX0_placeIs_96 : decode cX0_placeIs 96 = .ok (.aload_n 0, 1) := dk_42 (dk_at dksX0_placeIs_3 17 rfl rfl)
theorem dX0_placeIs_97 : decode cX0_placeIs 97 = .ok (.getfield 47, 3) := dk_180 0 47 (dk_at dksX0_placeIs_3 18 rfl rfl)
theorem dX0_placeIs_100 : decode cX0_placeIs 100 = .ok (.iload 4, 2) := dk_21 4 (dk_at dksX0_placeIs_3 21 rfl rfl)
theorem dX0_placeIs_102 : decode cX0_placeIs 102 = .ok (.invokevirtual 178, 3) := dk_182 0 178 (dk_at dksX0_placeIs_4 0 rfl rfl)
theorem dX0_placeIs_105 : decode cX0_placeIs 105 = .ok (.ireturn, 1) := dk_172 (dk_at dksX0_placeIs_4 3 rfl rfl)
theorem dX0_placeIs_106 : decode cX0_placeIs 106 = .ok (.aload_n 0, 1) := dk_42 (dk_at dksX0_placeIs_4 4 rfl rfl)
theorem dX0_placeIs_107 : decode cX0_placeIs 107 = .ok (.getfield 47, 3) := dk_180 0 47 (dk_at dksX0_placeIs_4 5 rfl rfl)
theorem dX0_placeIs_110 : decode cX0_placeIs 110 = .ok (.iload 4, 2) := dk_21 4 (dk_at dksX0_placeIs_4 8 rfl rfl)
theorem dX0_placeIs_112 : decode cX0_placeIs 112 = .ok (.invokevirtual 161, 3) := dk_182 0 161 (dk_at dksX0_placeIs_4 10 rfl rfl)
theorem dX0_placeIs_115 : decode cX0_placeIs 115 = .ok (.ireturn, 1) := dk_172 (dk_at dksX0_placeIs_4 13 rfl rfl)
theorem dX0_placeIs_116 : decode cX0_placeIs 116 = .ok (.iconst (-1), 1) := dk_2 (dk_at dksX0_placeIs_4 14 rfl rfl)
theorem dX0_placeIs_117 : decode cX0_placeIs 117 = .ok (.ireturn, 1) := dk_172 (dk_at dksX0_placeIs_4 15 rfl rfl)
abbrev cX0_thingIs : ByteArray := prog_1_method_19_code
def yX0_thingIs : MethodName := ⟨RX0, "thingIs", "(II)I"⟩
def dkwX0_thingIs_3 : List UInt8 := [167, 0, 4, 3, 172, 45, 182, 0, 197, 172, 2, 172]
abbrev dktX0_thingIs_3 : List UInt8 := dkwX0_thingIs_3 ++ []
def dkwX0_thingIs_2 : List UInt8 := [45, 180, 0, 185, 172, 45, 180, 0, 188, 172, 45, 180, 0, 191, 172, 45, 180, 0, 194, 153, 0, 7, 4]
abbrev dktX0_thingIs_2 : List UInt8 := dkwX0_thingIs_2 ++ dktX0_thingIs_3
def dkwX0_thingIs_1 : List UInt8 := [170, 0, 0, 0, 0, 0, 68, 0, 0, 0, 0, 0, 0, 0, 4, 0, 0, 0, 35, 0, 0, 0, 40, 0, 0, 0, 45, 0, 0, 0, 50, 0, 0, 0, 63]
abbrev dktX0_thingIs_1 : List UInt8 := dkwX0_thingIs_1 ++ dktX0_thingIs_2
def dkwX0_thingIs_0 : List UInt8 := [42, 27, 182, 0, 181, 154, 0, 5, 2, 172, 42, 180, 0, 47, 180, 0, 96, 27, 50, 78, 28]
abbrev dktX0_thingIs_0 : List UInt8 := dkwX0_thingIs_0 ++ dktX0_thingIs_1
theorem dksX0_thingIs_0 : cX0_thingIs.data.toList.drop 0 = dktX0_thingIs_0 := by decide +kernel
theorem dksX0_thingIs_1 : cX0_thingIs.data.toList.drop 21 = dktX0_thingIs_1 := dk_seg dksX0_thingIs_0 21 rfl rfl
theorem dksX0_thingIs_2 : cX0_thingIs.data.toList.drop 56 = dktX0_thingIs_2 := dk_seg dksX0_thingIs_1 35 rfl rfl
theorem dksX0_thingIs_3 : cX0_thingIs.data.toList.drop 79 = dktX0_thingIs_3 := dk_seg dksX0_thingIs_2 23 rfl rfl
theorem dX0_thingIs_0 : decode cX0_thingIs 0 = .ok (.aload_n 0, 1) := dk_42 (dk_at dksX0_thingIs_0 0 rfl rfl)
theorem dX0_thingIs_1 : decode cX0_thingIs 1 = .ok (.iload_n 1, 1) := dk_27 (dk_at dksX0_thingIs_0 1 rfl rfl)
theorem dX0_thingIs_2 : decode cX0_thingIs 2 = .ok (.invokevirtual 181, 3) := dk_182 0 181 (dk_at dksX0_thingIs_0 2 rfl rfl)
theorem dX0_thingIs_5 : decode cX0_thingIs 5 = .ok (.ifCond .ne 5, 3) := dk_154 0 5 (dk_at dksX0_thingIs_0 5 rfl rfl)
theorem dX0_thingIs_8 : decode cX0_thingIs 8 = .ok (.iconst (-1), 1) := dk_2 (dk_at dksX0_thingIs_0 8 rfl rfl)
theorem dX0_thingIs_9 : decode cX0_thingIs 9 = .ok (.ireturn, 1) := dk_172 (dk_at dksX0_thingIs_0 9 rfl rfl)
theorem dX0_thingIs_10 : decode cX0_thingIs 10 = .ok (.aload_n 0, 1) := dk_42 (dk_at dksX0_thingIs_0 10 rfl rfl)
theorem dX0_thingIs_11 : decode cX0_thingIs 11 = .ok (.getfield 47, 3) := dk_180 0 47 (dk_at dksX0_thingIs_0 11 rfl rfl)
theorem dX0_thingIs_14 : decode cX0_thingIs 14 = .ok (.getfield 96, 3) := dk_180 0 96 (dk_at dksX0_thingIs_0 14 rfl rfl)
theorem dX0_thingIs_17 : decode cX0_thingIs 17 = .ok (.iload_n 1, 1) := dk_27 (dk_at dksX0_thingIs_0 17 rfl rfl)
theorem dX0_thingIs_18 : decode cX0_thingIs 18 = .ok (.aaload, 1) := dk_50 (dk_at dksX0_thingIs_0 18 rfl rfl)
theorem dX0_thingIs_19 : decode cX0_thingIs 19 = .ok (.astore_n 3, 1) := dk_78 (dk_at dksX0_thingIs_0 19 rfl rfl)
theorem dX0_thingIs_20 : decode cX0_thingIs 20 = .ok (.iload_n 2, 1) := dk_28 (dk_at dksX0_thingIs_0 20 rfl rfl)
theorem dX0_thingIs_21 : decode cX0_thingIs 21 = .ok (.tableswitch 68 0 4 #[35, 40, 45, 50, 63], 35) := by decide +kernel
theorem dX0_thingIs_56 : decode cX0_thingIs 56 = .ok (.aload_n 3, 1) := dk_45 (dk_at dksX0_thingIs_2 0 rfl rfl)
theorem dX0_thingIs_57 : decode cX0_thingIs 57 = .ok (.getfield 185, 3) := dk_180 0 185 (dk_at dksX0_thingIs_2 1 rfl rfl)
theorem dX0_thingIs_60 : decode cX0_thingIs 60 = .ok (.ireturn, 1) := dk_172 (dk_at dksX0_thingIs_2 4 rfl rfl)
theorem dX0_thingIs_61 : decode cX0_thingIs 61 = .ok (.aload_n 3, 1) := dk_45 (dk_at dksX0_thingIs_2 5 rfl rfl)
theorem dX0_thingIs_62 : decode cX0_thingIs 62 = .ok (.getfield 188, 3) := dk_180 0 188 (dk_at dksX0_thingIs_2 6 rfl rfl)
theorem dX0_thingIs_65 : decode cX0_thingIs 65 = .ok (.ireturn, 1) := dk_172 (dk_at dksX0_thingIs_2 9 rfl rfl)
theorem dX0_thingIs_66 : decode cX0_thingIs 66 = .ok (.aload_n 3, 1) := dk_45 (dk_at dksX0_thingIs_2 10 rfl rfl)
theorem dX0_thingIs_67 : decode cX0_thingIs 67 = .ok (.getfield 191, 3) := dk_180 0 191 (dk_at dksX0_thingIs_2 11 rfl rfl)
theorem dX0_thingIs_70 : decode cX0_thingIs 70 = .ok (.ireturn, 1) := dk_172 (dk_at dksX0_thingIs_2 14 rfl rfl)
theorem dX0_thingIs_71 : decode cX0_thingIs 71 = .ok (.aload_n 3, 1) := dk_45 (dk_at dksX0_thingIs_2 15 rfl rfl)
theorem dX0_thingIs_72 : decode cX0_thingIs 72 = .ok (.getfield 194, 3) := dk_180 0 194 (dk_at dksX0_thingIs_2 16 rfl rfl)
theorem dX0_thingIs_75 : decode cX0_thingIs 75 = .ok (.ifCond .eq 7, 3) := dk_153 0 7 (dk_at dksX0_thingIs_2 19 rfl rfl)
theorem dX0_thingIs_78 : decode cX0_thingIs 78 = .ok (.iconst 1, 1) := dk_4 (dk_at dksX0_thingIs_2 22 rfl rfl)
theorem dX0_thingIs_79 : decode cX0_thingIs 79 = .ok (.goto 4, 3) := dk_167 0 4 (dk_at dksX0_thingIs_3 0 rfl rfl)
theorem dX0_thingIs_82 : decode cX0_thingIs 82 = .ok (.iconst 0, 1) := dk_3 (dk_at dksX0_thingIs_3 3 rfl rfl)
theorem dX0_thingIs_83 : decode cX0_thingIs 83 = .ok (.ireturn, 1) := dk_172 (dk_at dksX0_thingIs_3 4 rfl rfl)
theorem dX0_thingIs_84 : decode cX0_thingIs 84 = .ok (.aload_n 3, 1) := dk_45 (dk_at dksX0_thingIs_3 5 rfl rfl)
theorem dX0_thingIs_85 : decode cX0_thingIs 85 = .ok (.invokevirtual 197, 3) := dk_182 0 197 (dk_at dksX0_thingIs_3 6 rfl rfl)
theorem dX0_thingIs_88 : decode cX0_thingIs 88 = .ok (.ireturn, 1) := dk_172 (dk_at dksX0_thingIs_3 9 rfl rfl)
theorem dX0_thingIs_89 : decode cX0_thingIs 89 = .ok (.iconst (-1), 1) := dk_2 (dk_at dksX0_thingIs_3 10 rfl rfl)
theorem dX0_thingIs_90 : decode cX0_thingIs 90 = .ok (.ireturn, 1) := dk_172 (dk_at dksX0_thingIs_3 11 rfl rfl)
abbrev cX0_isThing : ByteArray := prog_1_method_9_code
def yX0_isThing : MethodName := ⟨RX0, "isThing", "(I)Z"⟩
def dkwX0_isThing_1 : List UInt8 := [4, 167, 0, 4, 3, 172]
abbrev dktX0_isThing_1 : List UInt8 := dkwX0_isThing_1 ++ []
def dkwX0_isThing_0 : List UInt8 := [27, 16, 24, 184, 0, 12, 153, 0, 22, 42, 180, 0, 47, 180, 0, 96, 27, 50, 180, 0, 100, 153, 0, 7]
abbrev dktX0_isThing_0 : List UInt8 := dkwX0_isThing_0 ++ dktX0_isThing_1
theorem dksX0_isThing_0 : cX0_isThing.data.toList.drop 0 = dktX0_isThing_0 := by decide +kernel
theorem dksX0_isThing_1 : cX0_isThing.data.toList.drop 24 = dktX0_isThing_1 := dk_seg dksX0_isThing_0 24 rfl rfl
theorem dX0_isThing_0 : decode cX0_isThing 0 = .ok (.iload_n 1, 1) := dk_27 (dk_at dksX0_isThing_0 0 rfl rfl)
theorem dX0_isThing_1 : decode cX0_isThing 1 = .ok (.bipush 24, 2) := dk_16 24 (dk_at dksX0_isThing_0 1 rfl rfl)
theorem dX0_isThing_3 : decode cX0_isThing 3 = .ok (.invokestatic 12, 3) := dk_184 0 12 (dk_at dksX0_isThing_0 3 rfl rfl)
theorem dX0_isThing_6 : decode cX0_isThing 6 = .ok (.ifCond .eq 22, 3) := dk_153 0 22 (dk_at dksX0_isThing_0 6 rfl rfl)
theorem dX0_isThing_9 : decode cX0_isThing 9 = .ok (.aload_n 0, 1) := dk_42 (dk_at dksX0_isThing_0 9 rfl rfl)
theorem dX0_isThing_10 : decode cX0_isThing 10 = .ok (.getfield 47, 3) := dk_180 0 47 (dk_at dksX0_isThing_0 10 rfl rfl)
theorem dX0_isThing_13 : decode cX0_isThing 13 = .ok (.getfield 96, 3) := dk_180 0 96 (dk_at dksX0_isThing_0 13 rfl rfl)
theorem dX0_isThing_16 : decode cX0_isThing 16 = .ok (.iload_n 1, 1) := dk_27 (dk_at dksX0_isThing_0 16 rfl rfl)
theorem dX0_isThing_17 : decode cX0_isThing 17 = .ok (.aaload, 1) := dk_50 (dk_at dksX0_isThing_0 17 rfl rfl)
theorem dX0_isThing_18 : decode cX0_isThing 18 = .ok (.getfield 100, 3) := dk_180 0 100 (dk_at dksX0_isThing_0 18 rfl rfl)
theorem dX0_isThing_21 : decode cX0_isThing 21 = .ok (.ifCond .eq 7, 3) := dk_153 0 7 (dk_at dksX0_isThing_0 21 rfl rfl)
theorem dX0_isThing_24 : decode cX0_isThing 24 = .ok (.iconst 1, 1) := dk_4 (dk_at dksX0_isThing_1 0 rfl rfl)
theorem dX0_isThing_25 : decode cX0_isThing 25 = .ok (.goto 4, 3) := dk_167 0 4 (dk_at dksX0_isThing_1 1 rfl rfl)
theorem dX0_isThing_28 : decode cX0_isThing 28 = .ok (.iconst 0, 1) := dk_3 (dk_at dksX0_isThing_1 4 rfl rfl)
theorem dX0_isThing_29 : decode cX0_isThing 29 = .ok (.ireturn, 1) := dk_172 (dk_at dksX0_isThing_1 5 rfl rfl)
abbrev cX0_comes : ByteArray := prog_1_method_20_code
def yX0_comes : MethodName := ⟨RX0, "comes", "(III)I"⟩
def dkwX0_comes_4 : List UInt8 := [132, 5, 1, 167, 255, 202, 16, 254, 172]
abbrev dktX0_comes_4 : List UInt8 := dkwX0_comes_4 ++ []
def dkwX0_comes_3 : List UInt8 := [180, 0, 51, 180, 0, 200, 17, 39, 15, 160, 0, 6, 16, 254, 172, 42, 180, 0, 51, 182, 0, 203]
abbrev dktX0_comes_3 : List UInt8 := dkwX0_comes_3 ++ dktX0_comes_4
def dkwX0_comes_2 : List UInt8 := [180, 0, 51, 180, 0, 158, 21, 4, 46, 153, 0, 6, 21, 5, 172, 21, 5, 29, 159, 0, 16, 42]
abbrev dktX0_comes_2 : List UInt8 := dkwX0_comes_2 ++ dktX0_comes_3
def dkwX0_comes_1 : List UInt8 := [172, 42, 180, 0, 51, 42, 180, 0, 47, 182, 0, 139, 87, 3, 54, 5, 21, 5, 29, 163, 0, 54, 42]
abbrev dktX0_comes_1 : List UInt8 := dkwX0_comes_1 ++ dktX0_comes_2
def dkwX0_comes_0 : List UInt8 := [27, 28, 184, 0, 23, 54, 4, 21, 4, 2, 159, 0, 13, 29, 4, 16, 100, 184, 0, 113, 154, 0, 5, 2]
abbrev dktX0_comes_0 : List UInt8 := dkwX0_comes_0 ++ dktX0_comes_1
theorem dksX0_comes_0 : cX0_comes.data.toList.drop 0 = dktX0_comes_0 := by decide +kernel
theorem dksX0_comes_1 : cX0_comes.data.toList.drop 24 = dktX0_comes_1 := dk_seg dksX0_comes_0 24 rfl rfl
theorem dksX0_comes_2 : cX0_comes.data.toList.drop 47 = dktX0_comes_2 := dk_seg dksX0_comes_1 23 rfl rfl
theorem dksX0_comes_3 : cX0_comes.data.toList.drop 69 = dktX0_comes_3 := dk_seg dksX0_comes_2 22 rfl rfl
theorem dksX0_comes_4 : cX0_comes.data.toList.drop 91 = dktX0_comes_4 := dk_seg dksX0_comes_3 22 rfl rfl
theorem dX0_comes_0 : decode cX0_comes 0 = .ok (.iload_n 1, 1) := dk_27 (dk_at dksX0_comes_0 0 rfl rfl)
theorem dX0_comes_1 : decode cX0_comes 1 = .ok (.iload_n 2, 1) := dk_28 (dk_at dksX0_comes_0 1 rfl rfl)
theorem dX0_comes_2 : decode cX0_comes 2 = .ok (.invokestatic 23, 3) := dk_184 0 23 (dk_at dksX0_comes_0 2 rfl rfl)
theorem dX0_comes_5 : decode cX0_comes 5 = .ok (.istore 4, 2) := dk_54 4 (dk_at dksX0_comes_0 5 rfl rfl)
theorem dX0_comes_7 : decode cX0_comes 7 = .ok (.iload 4, 2) := dk_21 4 (dk_at dksX0_comes_0 7 rfl rfl)
theorem dX0_comes_9 : decode cX0_comes 9 = .ok (.iconst (-1), 1) := dk_2 (dk_at dksX0_comes_0 9 rfl rfl)
theorem dX0_comes_10 : decode cX0_comes 10 = .ok (.if_icmp .eq 13, 3) := dk_159 0 13 (dk_at dksX0_comes_0 10 rfl rfl)
theorem dX0_comes_13 : decode cX0_comes 13 = .ok (.iload_n 3, 1) := dk_29 (dk_at dksX0_comes_0 13 rfl rfl)
theorem dX0_comes_14 : decode cX0_comes 14 = .ok (.iconst 1, 1) := dk_4 (dk_at dksX0_comes_0 14 rfl rfl)
theorem dX0_comes_15 : decode cX0_comes 15 = .ok (.bipush 100, 2) := dk_16 100 (dk_at dksX0_comes_0 15 rfl rfl)
theorem dX0_comes_17 : decode cX0_comes 17 = .ok (.invokestatic 113, 3) := dk_184 0 113 (dk_at dksX0_comes_0 17 rfl rfl)
theorem dX0_comes_20 : decode cX0_comes 20 = .ok (.ifCond .ne 5, 3) := dk_154 0 5 (dk_at dksX0_comes_0 20 rfl rfl)
theorem dX0_comes_23 : decode cX0_comes 23 = .ok (.iconst (-1), 1) := dk_2 (dk_at dksX0_comes_0 23 rfl rfl)
theorem dX0_comes_24 : decode cX0_comes 24 = .ok (.ireturn, 1) := dk_172 (dk_at dksX0_comes_1 0 rfl rfl)
theorem dX0_comes_25 : decode cX0_comes 25 = .ok (.aload_n 0, 1) := dk_42 (dk_at dksX0_comes_1 1 rfl rfl)
theorem dX0_comes_26 : decode cX0_comes 26 = .ok (.getfield 51, 3) := dk_180 0 51 (dk_at dksX0_comes_1 2 rfl rfl)
theorem dX0_comes_29 : decode cX0_comes 29 = .ok (.aload_n 0, 1) := dk_42 (dk_at dksX0_comes_1 5 rfl rfl)
theorem dX0_comes_30 : decode cX0_comes 30 = .ok (.getfield 47, 3) := dk_180 0 47 (dk_at dksX0_comes_1 6 rfl rfl)
theorem dX0_comes_33 : decode cX0_comes 33 = .ok (.invokevirtual 139, 3) := dk_182 0 139 (dk_at dksX0_comes_1 9 rfl rfl)
theorem dX0_comes_36 : decode cX0_comes 36 = .ok (.pop, 1) := dk_87 (dk_at dksX0_comes_1 12 rfl rfl)
theorem dX0_comes_37 : decode cX0_comes 37 = .ok (.iconst 0, 1) := dk_3 (dk_at dksX0_comes_1 13 rfl rfl)
theorem dX0_comes_38 : decode cX0_comes 38 = .ok (.istore 5, 2) := dk_54 5 (dk_at dksX0_comes_1 14 rfl rfl)
theorem dX0_comes_40 : decode cX0_comes 40 = .ok (.iload 5, 2) := dk_21 5 (dk_at dksX0_comes_1 16 rfl rfl)
theorem dX0_comes_42 : decode cX0_comes 42 = .ok (.iload_n 3, 1) := dk_29 (dk_at dksX0_comes_1 18 rfl rfl)
theorem dX0_comes_43 : decode cX0_comes 43 = .ok (.if_icmp .gt 54, 3) := dk_163 0 54 (dk_at dksX0_comes_1 19 rfl rfl)
theorem dX0_comes_46 : decode cX0_comes 46 = .ok (.aload_n 0, 1) := dk_42 (dk_at dksX0_comes_1 22 rfl rfl)
theorem dX0_comes_47 : decode cX0_comes 47 = .ok (.getfield 51, 3) := dk_180 0 51 (dk_at dksX0_comes_2 0 rfl rfl)
theorem dX0_comes_50 : decode cX0_comes 50 = .ok (.getfield 158, 3) := dk_180 0 158 (dk_at dksX0_comes_2 3 rfl rfl)
theorem dX0_comes_53 : decode cX0_comes 53 = .ok (.iload 4, 2) := dk_21 4 (dk_at dksX0_comes_2 6 rfl rfl)
theorem dX0_comes_55 : decode cX0_comes 55 = .ok (.iaload, 1) := dk_46 (dk_at dksX0_comes_2 8 rfl rfl)
theorem dX0_comes_56 : decode cX0_comes 56 = .ok (.ifCond .eq 6, 3) := dk_153 0 6 (dk_at dksX0_comes_2 9 rfl rfl)
theorem dX0_comes_59 : decode cX0_comes 59 = .ok (.iload 5, 2) := dk_21 5 (dk_at dksX0_comes_2 12 rfl rfl)
theorem dX0_comes_61 : decode cX0_comes 61 = .ok (.ireturn, 1) := dk_172 (dk_at dksX0_comes_2 14 rfl rfl)
theorem dX0_comes_62 : decode cX0_comes 62 = .ok (.iload 5, 2) := dk_21 5 (dk_at dksX0_comes_2 15 rfl rfl)
theorem dX0_comes_64 : decode cX0_comes 64 = .ok (.iload_n 3, 1) := dk_29 (dk_at dksX0_comes_2 17 rfl rfl)
theorem dX0_comes_65 : decode cX0_comes 65 = .ok (.if_icmp .eq 16, 3) := dk_159 0 16 (dk_at dksX0_comes_2 18 rfl rfl)
theorem dX0_comes_68 : decode cX0_comes 68 = .ok (.aload_n 0, 1) := dk_42 (dk_at dksX0_comes_2 21 rfl rfl)
theorem dX0_comes_69 : decode cX0_comes 69 = .ok (.getfield 51, 3) := dk_180 0 51 (dk_at dksX0_comes_3 0 rfl rfl)
theorem dX0_comes_72 : decode cX0_comes 72 = .ok (.getfield 200, 3) := dk_180 0 200 (dk_at dksX0_comes_3 3 rfl rfl)
theorem dX0_comes_75 : decode cX0_comes 75 = .ok (.sipush 9999, 3) := dk_17 39 15 (dk_at dksX0_comes_3 6 rfl rfl)
theorem dX0_comes_78 : decode cX0_comes 78 = .ok (.if_icmp .ne 6, 3) := dk_160 0 6 (dk_at dksX0_comes_3 9 rfl rfl)
theorem dX0_comes_81 : decode cX0_comes 81 = .ok (.bipush (-2), 2) := dk_16 254 (dk_at dksX0_comes_3 12 rfl rfl)
theorem dX0_comes_83 : decode cX0_comes 83 = .ok (.ireturn, 1) := dk_172 (dk_at dksX0_comes_3 14 rfl rfl)
theorem dX0_comes_84 : decode cX0_comes 84 = .ok (.aload_n 0, 1) := dk_42 (dk_at dksX0_comes_3 15 rfl rfl)
theorem dX0_comes_85 : decode cX0_comes 85 = .ok (.getfield 51, 3) := dk_180 0 51 (dk_at dksX0_comes_3 16 rfl rfl)
theorem dX0_comes_88 : decode cX0_comes 88 = .ok (.invokevirtual 203, 3) := dk_182 0 203 (dk_at dksX0_comes_3 19 rfl rfl)
theorem dX0_comes_91 : decode cX0_comes 91 = .ok (.iinc 5 1, 3) := dk_132 5 1 (dk_at dksX0_comes_4 0 rfl rfl)
theorem dX0_comes_94 : decode cX0_comes 94 = .ok (.goto (-54), 3) := dk_167 255 202 (dk_at dksX0_comes_4 3 rfl rfl)
theorem dX0_comes_97 : decode cX0_comes 97 = .ok (.bipush (-2), 2) := dk_16 254 (dk_at dksX0_comes_4 6 rfl rfl)
theorem dX0_comes_99 : decode cX0_comes 99 = .ok (.ireturn, 1) := dk_172 (dk_at dksX0_comes_4 8 rfl rfl)
abbrev cX0_over : ByteArray := prog_1_method_21_code
def yX0_over : MethodName := ⟨RX0, "over", "(I)I"⟩
def dkwX0_over_3 : List UInt8 := [182, 0, 203, 132, 2, 1, 167, 255, 207, 16, 254, 172]
abbrev dktX0_over_3 : List UInt8 := dkwX0_over_3 ++ []
def dkwX0_over_2 : List UInt8 := [159, 0, 16, 42, 180, 0, 51, 180, 0, 200, 17, 39, 15, 160, 0, 6, 16, 254, 172, 42, 180, 0, 51]
abbrev dktX0_over_2 : List UInt8 := dkwX0_over_2 ++ dktX0_over_3
def dkwX0_over_1 : List UInt8 := [3, 61, 28, 27, 163, 0, 50, 42, 180, 0, 51, 4, 182, 0, 154, 154, 0, 5, 28, 172, 28, 27]
abbrev dktX0_over_1 : List UInt8 := dkwX0_over_1 ++ dktX0_over_2
def dkwX0_over_0 : List UInt8 := [27, 4, 16, 100, 184, 0, 113, 154, 0, 5, 2, 172, 42, 180, 0, 51, 42, 180, 0, 47, 182, 0, 139, 87]
abbrev dktX0_over_0 : List UInt8 := dkwX0_over_0 ++ dktX0_over_1
theorem dksX0_over_0 : cX0_over.data.toList.drop 0 = dktX0_over_0 := by decide +kernel
theorem dksX0_over_1 : cX0_over.data.toList.drop 24 = dktX0_over_1 := dk_seg dksX0_over_0 24 rfl rfl
theorem dksX0_over_2 : cX0_over.data.toList.drop 46 = dktX0_over_2 := dk_seg dksX0_over_1 22 rfl rfl
theorem dksX0_over_3 : cX0_over.data.toList.drop 69 = dktX0_over_3 := dk_seg dksX0_over_2 23 rfl rfl
theorem dX0_over_0 : decode cX0_over 0 = .ok (.iload_n 1, 1) := dk_27 (dk_at dksX0_over_0 0 rfl rfl)
theorem dX0_over_1 : decode cX0_over 1 = .ok (.iconst 1, 1) := dk_4 (dk_at dksX0_over_0 1 rfl rfl)
theorem dX0_over_2 : decode cX0_over 2 = .ok (.bipush 100, 2) := dk_16 100 (dk_at dksX0_over_0 2 rfl rfl)
theorem dX0_over_4 : decode cX0_over 4 = .ok (.invokestatic 113, 3) := dk_184 0 113 (dk_at dksX0_over_0 4 rfl rfl)
theorem dX0_over_7 : decode cX0_over 7 = .ok (.ifCond .ne 5, 3) := dk_154 0 5 (dk_at dksX0_over_0 7 rfl rfl)
theorem dX0_over_10 : decode cX0_over 10 = .ok (.iconst (-1), 1) := dk_2 (dk_at dksX0_over_0 10 rfl rfl)
theorem dX0_over_11 : decode cX0_over 11 = .ok (.ireturn, 1) := dk_172 (dk_at dksX0_over_0 11 rfl rfl)
theorem dX0_over_12 : decode cX0_over 12 = .ok (.aload_n 0, 1) := dk_42 (dk_at dksX0_over_0 12 rfl rfl)
theorem dX0_over_13 : decode cX0_over 13 = .ok (.getfield 51, 3) := dk_180 0 51 (dk_at dksX0_over_0 13 rfl rfl)
theorem dX0_over_16 : decode cX0_over 16 = .ok (.aload_n 0, 1) := dk_42 (dk_at dksX0_over_0 16 rfl rfl)
theorem dX0_over_17 : decode cX0_over 17 = .ok (.getfield 47, 3) := dk_180 0 47 (dk_at dksX0_over_0 17 rfl rfl)
theorem dX0_over_20 : decode cX0_over 20 = .ok (.invokevirtual 139, 3) := dk_182 0 139 (dk_at dksX0_over_0 20 rfl rfl)
theorem dX0_over_23 : decode cX0_over 23 = .ok (.pop, 1) := dk_87 (dk_at dksX0_over_0 23 rfl rfl)
theorem dX0_over_24 : decode cX0_over 24 = .ok (.iconst 0, 1) := dk_3 (dk_at dksX0_over_1 0 rfl rfl)
theorem dX0_over_25 : decode cX0_over 25 = .ok (.istore_n 2, 1) := dk_61 (dk_at dksX0_over_1 1 rfl rfl)
theorem dX0_over_26 : decode cX0_over 26 = .ok (.iload_n 2, 1) := dk_28 (dk_at dksX0_over_1 2 rfl rfl)
theorem dX0_over_27 : decode cX0_over 27 = .ok (.iload_n 1, 1) := dk_27 (dk_at dksX0_over_1 3 rfl rfl)
theorem dX0_over_28 : decode cX0_over 28 = .ok (.if_icmp .gt 50, 3) := dk_163 0 50 (dk_at dksX0_over_1 4 rfl rfl)
theorem dX0_over_31 : decode cX0_over 31 = .ok (.aload_n 0, 1) := dk_42 (dk_at dksX0_over_1 7 rfl rfl)
theorem dX0_over_32 : decode cX0_over 32 = .ok (.getfield 51, 3) := dk_180 0 51 (dk_at dksX0_over_1 8 rfl rfl)
theorem dX0_over_35 : decode cX0_over 35 = .ok (.iconst 1, 1) := dk_4 (dk_at dksX0_over_1 11 rfl rfl)
theorem dX0_over_36 : decode cX0_over 36 = .ok (.invokevirtual 154, 3) := dk_182 0 154 (dk_at dksX0_over_1 12 rfl rfl)
theorem dX0_over_39 : decode cX0_over 39 = .ok (.ifCond .ne 5, 3) := dk_154 0 5 (dk_at dksX0_over_1 15 rfl rfl)
theorem dX0_over_42 : decode cX0_over 42 = .ok (.iload_n 2, 1) := dk_28 (dk_at dksX0_over_1 18 rfl rfl)
theorem dX0_over_43 : decode cX0_over 43 = .ok (.ireturn, 1) := dk_172 (dk_at dksX0_over_1 19 rfl rfl)
theorem dX0_over_44 : decode cX0_over 44 = .ok (.iload_n 2, 1) := dk_28 (dk_at dksX0_over_1 20 rfl rfl)
theorem dX0_over_45 : decode cX0_over 45 = .ok (.iload_n 1, 1) := dk_27 (dk_at dksX0_over_1 21 rfl rfl)
theorem dX0_over_46 : decode cX0_over 46 = .ok (.if_icmp .eq 16, 3) := dk_159 0 16 (dk_at dksX0_over_2 0 rfl rfl)
theorem dX0_over_49 : decode cX0_over 49 = .ok (.aload_n 0, 1) := dk_42 (dk_at dksX0_over_2 3 rfl rfl)
theorem dX0_over_50 : decode cX0_over 50 = .ok (.getfield 51, 3) := dk_180 0 51 (dk_at dksX0_over_2 4 rfl rfl)
theorem dX0_over_53 : decode cX0_over 53 = .ok (.getfield 200, 3) := dk_180 0 200 (dk_at dksX0_over_2 7 rfl rfl)
theorem dX0_over_56 : decode cX0_over 56 = .ok (.sipush 9999, 3) := dk_17 39 15 (dk_at dksX0_over_2 10 rfl rfl)
theorem dX0_over_59 : decode cX0_over 59 = .ok (.if_icmp .ne 6, 3) := dk_160 0 6 (dk_at dksX0_over_2 13 rfl rfl)
theorem dX0_over_62 : decode cX0_over 62 = .ok (.bipush (-2), 2) := dk_16 254 (dk_at dksX0_over_2 16 rfl rfl)
theorem dX0_over_64 : decode cX0_over 64 = .ok (.ireturn, 1) := dk_172 (dk_at dksX0_over_2 18 rfl rfl)
theorem dX0_over_65 : decode cX0_over 65 = .ok (.aload_n 0, 1) := dk_42 (dk_at dksX0_over_2 19 rfl rfl)
theorem dX0_over_66 : decode cX0_over 66 = .ok (.getfield 51, 3) := dk_180 0 51 (dk_at dksX0_over_2 20 rfl rfl)
theorem dX0_over_69 : decode cX0_over 69 = .ok (.invokevirtual 203, 3) := dk_182 0 203 (dk_at dksX0_over_3 0 rfl rfl)
theorem dX0_over_72 : decode cX0_over 72 = .ok (.iinc 2 1, 3) := dk_132 2 1 (dk_at dksX0_over_3 3 rfl rfl)
theorem dX0_over_75 : decode cX0_over 75 = .ok (.goto (-49), 3) := dk_167 255 207 (dk_at dksX0_over_3 6 rfl rfl)
theorem dX0_over_78 : decode cX0_over 78 = .ok (.bipush (-2), 2) := dk_16 254 (dk_at dksX0_over_3 9 rfl rfl)
theorem dX0_over_80 : decode cX0_over 80 = .ok (.ireturn, 1) := dk_172 (dk_at dksX0_over_3 11 rfl rfl)
abbrev cX0_steps : ByteArray := prog_1_method_25_code
def yX0_steps : MethodName := ⟨RX0, "steps", "(II)I"⟩
def dkwX0_steps_2 : List UInt8 := [180, 0, 68, 28, 46, 18, 209, 160, 0, 8, 16, 254, 167, 0, 9, 42, 180, 0, 68, 28, 46, 172]
abbrev dktX0_steps_2 : List UInt8 := dkwX0_steps_2 ++ []
def dkwX0_steps_1 : List UInt8 := [182, 0, 213, 153, 0, 11, 42, 28, 182, 0, 213, 154, 0, 6, 16, 253, 172, 42, 27, 182, 0, 216, 42]
abbrev dktX0_steps_1 : List UInt8 := dkwX0_steps_1 ++ dktX0_steps_2
def dkwX0_steps_0 : List UInt8 := [27, 16, 96, 184, 0, 12, 153, 0, 12, 28, 16, 96, 184, 0, 12, 154, 0, 5, 2, 172, 42, 27]
abbrev dktX0_steps_0 : List UInt8 := dkwX0_steps_0 ++ dktX0_steps_1
theorem dksX0_steps_0 : cX0_steps.data.toList.drop 0 = dktX0_steps_0 := by decide +kernel
theorem dksX0_steps_1 : cX0_steps.data.toList.drop 22 = dktX0_steps_1 := dk_seg dksX0_steps_0 22 rfl rfl
theorem dksX0_steps_2 : cX0_steps.data.toList.drop 45 = dktX0_steps_2 := dk_seg dksX0_steps_1 23 rfl rfl
theorem dX0_steps_0 : decode cX0_steps 0 = .ok (.iload_n 1, 1) := dk_27 (dk_at dksX0_steps_0 0 rfl rfl)
theorem dX0_steps_1 : decode cX0_steps 1 = .ok (.bipush 96, 2) := dk_16 96 (dk_at dksX0_steps_0 1 rfl rfl)
theorem dX0_steps_3 : decode cX0_steps 3 = .ok (.invokestatic 12, 3) := dk_184 0 12 (dk_at dksX0_steps_0 3 rfl rfl)
theorem dX0_steps_6 : decode cX0_steps 6 = .ok (.ifCond .eq 12, 3) := dk_153 0 12 (dk_at dksX0_steps_0 6 rfl rfl)
theorem dX0_steps_9 : decode cX0_steps 9 = .ok (.iload_n 2, 1) := dk_28 (dk_at dksX0_steps_0 9 rfl rfl)
theorem dX0_steps_10 : decode cX0_steps 10 = .ok (.bipush 96, 2) := dk_16 96 (dk_at dksX0_steps_0 10 rfl rfl)
theorem dX0_steps_12 : decode cX0_steps 12 = .ok (.invokestatic 12, 3) := dk_184 0 12 (dk_at dksX0_steps_0 12 rfl rfl)
theorem dX0_steps_15 : decode cX0_steps 15 = .ok (.ifCond .ne 5, 3) := dk_154 0 5 (dk_at dksX0_steps_0 15 rfl rfl)
theorem dX0_steps_18 : decode cX0_steps 18 = .ok (.iconst (-1), 1) := dk_2 (dk_at dksX0_steps_0 18 rfl rfl)
theorem dX0_steps_19 : decode cX0_steps 19 = .ok (.ireturn, 1) := dk_172 (dk_at dksX0_steps_0 19 rfl rfl)
theorem dX0_steps_20 : decode cX0_steps 20 = .ok (.aload_n 0, 1) := dk_42 (dk_at dksX0_steps_0 20 rfl rfl)
theorem dX0_steps_21 : decode cX0_steps 21 = .ok (.iload_n 1, 1) := dk_27 (dk_at dksX0_steps_0 21 rfl rfl)
theorem dX0_steps_22 : decode cX0_steps 22 = .ok (.invokevirtual 213, 3) := dk_182 0 213 (dk_at dksX0_steps_1 0 rfl rfl)
theorem dX0_steps_25 : decode cX0_steps 25 = .ok (.ifCond .eq 11, 3) := dk_153 0 11 (dk_at dksX0_steps_1 3 rfl rfl)
theorem dX0_steps_28 : decode cX0_steps 28 = .ok (.aload_n 0, 1) := dk_42 (dk_at dksX0_steps_1 6 rfl rfl)
theorem dX0_steps_29 : decode cX0_steps 29 = .ok (.iload_n 2, 1) := dk_28 (dk_at dksX0_steps_1 7 rfl rfl)
theorem dX0_steps_30 : decode cX0_steps 30 = .ok (.invokevirtual 213, 3) := dk_182 0 213 (dk_at dksX0_steps_1 8 rfl rfl)
theorem dX0_steps_33 : decode cX0_steps 33 = .ok (.ifCond .ne 6, 3) := dk_154 0 6 (dk_at dksX0_steps_1 11 rfl rfl)
theorem dX0_steps_36 : decode cX0_steps 36 = .ok (.bipush (-3), 2) := dk_16 253 (dk_at dksX0_steps_1 14 rfl rfl)
theorem dX0_steps_38 : decode cX0_steps 38 = .ok (.ireturn, 1) := dk_172 (dk_at dksX0_steps_1 16 rfl rfl)
theorem dX0_steps_39 : decode cX0_steps 39 = .ok (.aload_n 0, 1) := dk_42 (dk_at dksX0_steps_1 17 rfl rfl)
theorem dX0_steps_40 : decode cX0_steps 40 = .ok (.iload_n 1, 1) := dk_27 (dk_at dksX0_steps_1 18 rfl rfl)
theorem dX0_steps_41 : decode cX0_steps 41 = .ok (.invokevirtual 216, 3) := dk_182 0 216 (dk_at dksX0_steps_1 19 rfl rfl)
theorem dX0_steps_44 : decode cX0_steps 44 = .ok (.aload_n 0, 1) := dk_42 (dk_at dksX0_steps_1 22 rfl rfl)
theorem dX0_steps_45 : decode cX0_steps 45 = .ok (.getfield 68, 3) := dk_180 0 68 (dk_at dksX0_steps_2 0 rfl rfl)
theorem dX0_steps_48 : decode cX0_steps 48 = .ok (.iload_n 2, 1) := dk_28 (dk_at dksX0_steps_2 3 rfl rfl)
theorem dX0_steps_49 : decode cX0_steps 49 = .ok (.iaload, 1) := dk_46 (dk_at dksX0_steps_2 4 rfl rfl)
theorem dX0_steps_50 : decode cX0_steps 50 = .ok (.ldc 209, 2) := dk_18 209 (dk_at dksX0_steps_2 5 rfl rfl)
theorem dX0_steps_52 : decode cX0_steps 52 = .ok (.if_icmp .ne 8, 3) := dk_160 0 8 (dk_at dksX0_steps_2 7 rfl rfl)
theorem dX0_steps_55 : decode cX0_steps 55 = .ok (.bipush (-2), 2) := dk_16 254 (dk_at dksX0_steps_2 10 rfl rfl)
theorem dX0_steps_57 : decode cX0_steps 57 = .ok (.goto 9, 3) := dk_167 0 9 (dk_at dksX0_steps_2 12 rfl rfl)
theorem dX0_steps_60 : decode cX0_steps 60 = .ok (.aload_n 0, 1) := dk_42 (dk_at dksX0_steps_2 15 rfl rfl)
theorem dX0_steps_61 : decode cX0_steps 61 = .ok (.getfield 68, 3) := dk_180 0 68 (dk_at dksX0_steps_2 16 rfl rfl)
theorem dX0_steps_64 : decode cX0_steps 64 = .ok (.iload_n 2, 1) := dk_28 (dk_at dksX0_steps_2 19 rfl rfl)
theorem dX0_steps_65 : decode cX0_steps 65 = .ok (.iaload, 1) := dk_46 (dk_at dksX0_steps_2 20 rfl rfl)
theorem dX0_steps_66 : decode cX0_steps 66 = .ok (.ireturn, 1) := dk_172 (dk_at dksX0_steps_2 21 rfl rfl)
abbrev cX0_isWood : ByteArray := prog_1_method_8_code
def yX0_isWood : MethodName := ⟨RX0, "isWood", "(I)Z"⟩
def dkwX0_isWood_1 : List UInt8 := [172]
abbrev dktX0_isWood_1 : List UInt8 := dkwX0_isWood_1 ++ []
def dkwX0_isWood_0 : List UInt8 := [27, 16, 96, 184, 0, 12, 153, 0, 17, 42, 180, 0, 32, 27, 46, 4, 160, 0, 7, 4, 167, 0, 4, 3]
abbrev dktX0_isWood_0 : List UInt8 := dkwX0_isWood_0 ++ dktX0_isWood_1
theorem dksX0_isWood_0 : cX0_isWood.data.toList.drop 0 = dktX0_isWood_0 := by decide +kernel
theorem dksX0_isWood_1 : cX0_isWood.data.toList.drop 24 = dktX0_isWood_1 := dk_seg dksX0_isWood_0 24 rfl rfl
theorem dX0_isWood_0 : decode cX0_isWood 0 = .ok (.iload_n 1, 1) := dk_27 (dk_at dksX0_isWood_0 0 rfl rfl)
theorem dX0_isWood_1 : decode cX0_isWood 1 = .ok (.bipush 96, 2) := dk_16 96 (dk_at dksX0_isWood_0 1 rfl rfl)
theorem dX0_isWood_3 : decode cX0_isWood 3 = .ok (.invokestatic 12, 3) := dk_184 0 12 (dk_at dksX0_isWood_0 3 rfl rfl)
theorem dX0_isWood_6 : decode cX0_isWood 6 = .ok (.ifCond .eq 17, 3) := dk_153 0 17 (dk_at dksX0_isWood_0 6 rfl rfl)
theorem dX0_isWood_9 : decode cX0_isWood 9 = .ok (.aload_n 0, 1) := dk_42 (dk_at dksX0_isWood_0 9 rfl rfl)
theorem dX0_isWood_10 : decode cX0_isWood 10 = .ok (.getfield 32, 3) := dk_180 0 32 (dk_at dksX0_isWood_0 10 rfl rfl)
theorem dX0_isWood_13 : decode cX0_isWood 13 = .ok (.iload_n 1, 1) := dk_27 (dk_at dksX0_isWood_0 13 rfl rfl)
theorem dX0_isWood_14 : decode cX0_isWood 14 = .ok (.iaload, 1) := dk_46 (dk_at dksX0_isWood_0 14 rfl rfl)
theorem dX0_isWood_15 : decode cX0_isWood 15 = .ok (.iconst 1, 1) := dk_4 (dk_at dksX0_isWood_0 15 rfl rfl)
theorem dX0_isWood_16 : decode cX0_isWood 16 = .ok (.if_icmp .ne 7, 3) := dk_160 0 7 (dk_at dksX0_isWood_0 16 rfl rfl)
theorem dX0_isWood_19 : decode cX0_isWood 19 = .ok (.iconst 1, 1) := dk_4 (dk_at dksX0_isWood_0 19 rfl rfl)
theorem dX0_isWood_20 : decode cX0_isWood 20 = .ok (.goto 4, 3) := dk_167 0 4 (dk_at dksX0_isWood_0 20 rfl rfl)
theorem dX0_isWood_23 : decode cX0_isWood 23 = .ok (.iconst 0, 1) := dk_3 (dk_at dksX0_isWood_0 23 rfl rfl)
theorem dX0_isWood_24 : decode cX0_isWood 24 = .ok (.ireturn, 1) := dk_172 (dk_at dksX0_isWood_1 0 rfl rfl)
abbrev cX0_laysFrom : ByteArray := prog_1_method_23_code
def yX0_laysFrom : MethodName := ⟨RX0, "laysFrom", "(I)V"⟩
def dkwX0_laysFrom_1 : List UInt8 := [79, 132, 2, 1, 167, 255, 230, 42, 182, 0, 210, 177]
abbrev dktX0_laysFrom_1 : List UInt8 := dkwX0_laysFrom_1 ++ []
def dkwX0_laysFrom_0 : List UInt8 := [3, 61, 28, 16, 96, 162, 0, 26, 42, 180, 0, 68, 28, 28, 27, 160, 0, 7, 3, 167, 0, 5, 18, 209]
abbrev dktX0_laysFrom_0 : List UInt8 := dkwX0_laysFrom_0 ++ dktX0_laysFrom_1
theorem dksX0_laysFrom_0 : cX0_laysFrom.data.toList.drop 0 = dktX0_laysFrom_0 := by decide +kernel
theorem dksX0_laysFrom_1 : cX0_laysFrom.data.toList.drop 24 = dktX0_laysFrom_1 := dk_seg dksX0_laysFrom_0 24 rfl rfl
theorem dX0_laysFrom_0 : decode cX0_laysFrom 0 = .ok (.iconst 0, 1) := dk_3 (dk_at dksX0_laysFrom_0 0 rfl rfl)
theorem dX0_laysFrom_1 : decode cX0_laysFrom 1 = .ok (.istore_n 2, 1) := dk_61 (dk_at dksX0_laysFrom_0 1 rfl rfl)
theorem dX0_laysFrom_2 : decode cX0_laysFrom 2 = .ok (.iload_n 2, 1) := dk_28 (dk_at dksX0_laysFrom_0 2 rfl rfl)
theorem dX0_laysFrom_3 : decode cX0_laysFrom 3 = .ok (.bipush 96, 2) := dk_16 96 (dk_at dksX0_laysFrom_0 3 rfl rfl)
theorem dX0_laysFrom_5 : decode cX0_laysFrom 5 = .ok (.if_icmp .ge 26, 3) := dk_162 0 26 (dk_at dksX0_laysFrom_0 5 rfl rfl)
theorem dX0_laysFrom_8 : decode cX0_laysFrom 8 = .ok (.aload_n 0, 1) := dk_42 (dk_at dksX0_laysFrom_0 8 rfl rfl)
theorem dX0_laysFrom_9 : decode cX0_laysFrom 9 = .ok (.getfield 68, 3) := dk_180 0 68 (dk_at dksX0_laysFrom_0 9 rfl rfl)
theorem dX0_laysFrom_12 : decode cX0_laysFrom 12 = .ok (.iload_n 2, 1) := dk_28 (dk_at dksX0_laysFrom_0 12 rfl rfl)
theorem dX0_laysFrom_13 : decode cX0_laysFrom 13 = .ok (.iload_n 2, 1) := dk_28 (dk_at dksX0_laysFrom_0 13 rfl rfl)
theorem dX0_laysFrom_14 : decode cX0_laysFrom 14 = .ok (.iload_n 1, 1) := dk_27 (dk_at dksX0_laysFrom_0 14 rfl rfl)
theorem dX0_laysFrom_15 : decode cX0_laysFrom 15 = .ok (.if_icmp .ne 7, 3) := dk_160 0 7 (dk_at dksX0_laysFrom_0 15 rfl rfl)
theorem dX0_laysFrom_18 : decode cX0_laysFrom 18 = .ok (.iconst 0, 1) := dk_3 (dk_at dksX0_laysFrom_0 18 rfl rfl)
theorem dX0_laysFrom_19 : decode cX0_laysFrom 19 = .ok (.goto 5, 3) := dk_167 0 5 (dk_at dksX0_laysFrom_0 19 rfl rfl)
theorem dX0_laysFrom_22 : decode cX0_laysFrom 22 = .ok (.ldc 209, 2) := dk_18 209 (dk_at dksX0_laysFrom_0 22 rfl rfl)
theorem dX0_laysFrom_24 : decode cX0_laysFrom 24 = .ok (.iastore, 1) := dk_79 (dk_at dksX0_laysFrom_1 0 rfl rfl)
theorem dX0_laysFrom_25 : decode cX0_laysFrom 25 = .ok (.iinc 2 1, 3) := dk_132 2 1 (dk_at dksX0_laysFrom_1 1 rfl rfl)
theorem dX0_laysFrom_28 : decode cX0_laysFrom 28 = .ok (.goto (-26), 3) := dk_167 255 230 (dk_at dksX0_laysFrom_1 4 rfl rfl)
theorem dX0_laysFrom_31 : decode cX0_laysFrom 31 = .ok (.aload_n 0, 1) := dk_42 (dk_at dksX0_laysFrom_1 7 rfl rfl)
theorem dX0_laysFrom_32 : decode cX0_laysFrom 32 = .ok (.invokevirtual 210, 3) := dk_182 0 210 (dk_at dksX0_laysFrom_1 8 rfl rfl)
theorem dX0_laysFrom_35 : decode cX0_laysFrom 35 = .ok (.return_, 1) := dk_177 (dk_at dksX0_laysFrom_1 11 rfl rfl)
abbrev cX0_spreads : ByteArray := prog_1_method_22_code
def yX0_spreads : MethodName := ⟨RX0, "spreads", "()V"⟩
def dkwX0_spreads_4 : List UInt8 := [132, 3, 1, 167, 255, 169, 132, 2, 1, 167, 255, 155, 177]
abbrev dktX0_spreads_4 : List UInt8 := dkwX0_spreads_4 ++ []
def dkwX0_spreads_3 : List UInt8 := [163, 0, 6, 167, 0, 15, 42, 180, 0, 68, 21, 5, 28, 4, 96, 79, 4, 60, 132, 4, 1, 167, 255, 184]
abbrev dktX0_spreads_3 : List UInt8 := dkwX0_spreads_3 ++ dktX0_spreads_4
def dkwX0_spreads_2 : List UInt8 := [159, 0, 42, 42, 180, 0, 32, 21, 5, 46, 4, 160, 0, 31, 42, 180, 0, 68, 21, 5, 46, 28, 4, 96]
abbrev dktX0_spreads_2 : List UInt8 := dkwX0_spreads_2 ++ dktX0_spreads_3
def dkwX0_spreads_1 : List UInt8 := [162, 0, 72, 42, 180, 0, 68, 29, 46, 28, 160, 0, 62, 29, 21, 4, 184, 0, 206, 54, 5, 21, 5, 2]
abbrev dktX0_spreads_1 : List UInt8 := dkwX0_spreads_1 ++ dktX0_spreads_2
def dkwX0_spreads_0 : List UInt8 := [4, 60, 3, 61, 27, 153, 0, 103, 3, 60, 3, 62, 29, 16, 96, 162, 0, 87, 3, 54, 4, 21, 4, 7]
abbrev dktX0_spreads_0 : List UInt8 := dkwX0_spreads_0 ++ dktX0_spreads_1
theorem dksX0_spreads_0 : cX0_spreads.data.toList.drop 0 = dktX0_spreads_0 := by decide +kernel
theorem dksX0_spreads_1 : cX0_spreads.data.toList.drop 24 = dktX0_spreads_1 := dk_seg dksX0_spreads_0 24 rfl rfl
theorem dksX0_spreads_2 : cX0_spreads.data.toList.drop 48 = dktX0_spreads_2 := dk_seg dksX0_spreads_1 24 rfl rfl
theorem dksX0_spreads_3 : cX0_spreads.data.toList.drop 72 = dktX0_spreads_3 := dk_seg dksX0_spreads_2 24 rfl rfl
theorem dksX0_spreads_4 : cX0_spreads.data.toList.drop 96 = dktX0_spreads_4 := dk_seg dksX0_spreads_3 24 rfl rfl
theorem dX0_spreads_0 : decode cX0_spreads 0 = .ok (.iconst 1, 1) := dk_4 (dk_at dksX0_spreads_0 0 rfl rfl)
theorem dX0_spreads_1 : decode cX0_spreads 1 = .ok (.istore_n 1, 1) := dk_60 (dk_at dksX0_spreads_0 1 rfl rfl)
theorem dX0_spreads_2 : decode cX0_spreads 2 = .ok (.iconst 0, 1) := dk_3 (dk_at dksX0_spreads_0 2 rfl rfl)
theorem dX0_spreads_3 : decode cX0_spreads 3 = .ok (.istore_n 2, 1) := dk_61 (dk_at dksX0_spreads_0 3 rfl rfl)
theorem dX0_spreads_4 : decode cX0_spreads 4 = .ok (.iload_n 1, 1) := dk_27 (dk_at dksX0_spreads_0 4 rfl rfl)
theorem dX0_spreads_5 : decode cX0_spreads 5 = .ok (.ifCond .eq 103, 3) := dk_153 0 103 (dk_at dksX0_spreads_0 5 rfl rfl)
theorem dX0_spreads_8 : decode cX0_spreads 8 = .ok (.iconst 0, 1) := dk_3 (dk_at dksX0_spreads_0 8 rfl rfl)
theorem dX0_spreads_9 : decode cX0_spreads 9 = .ok (.istore_n 1, 1) := dk_60 (dk_at dksX0_spreads_0 9 rfl rfl)
theorem dX0_spreads_10 : decode cX0_spreads 10 = .ok (.iconst 0, 1) := dk_3 (dk_at dksX0_spreads_0 10 rfl rfl)
theorem dX0_spreads_11 : decode cX0_spreads 11 = .ok (.istore_n 3, 1) := dk_62 (dk_at dksX0_spreads_0 11 rfl rfl)
theorem dX0_spreads_12 : decode cX0_spreads 12 = .ok (.iload_n 3, 1) := dk_29 (dk_at dksX0_spreads_0 12 rfl rfl)
theorem dX0_spreads_13 : decode cX0_spreads 13 = .ok (.bipush 96, 2) := dk_16 96 (dk_at dksX0_spreads_0 13 rfl rfl)
theorem dX0_spreads_15 : decode cX0_spreads 15 = .ok (.if_icmp .ge 87, 3) := dk_162 0 87 (dk_at dksX0_spreads_0 15 rfl rfl)
theorem dX0_spreads_18 : decode cX0_spreads 18 = .ok (.iconst 0, 1) := dk_3 (dk_at dksX0_spreads_0 18 rfl rfl)
theorem dX0_spreads_19 : decode cX0_spreads 19 = .ok (.istore 4, 2) := dk_54 4 (dk_at dksX0_spreads_0 19 rfl rfl)
theorem dX0_spreads_21 : decode cX0_spreads 21 = .ok (.iload 4, 2) := dk_21 4 (dk_at dksX0_spreads_0 21 rfl rfl)
theorem dX0_spreads_23 : decode cX0_spreads 23 = .ok (.iconst 4, 1) := dk_7 (dk_at dksX0_spreads_0 23 rfl rfl)
theorem dX0_spreads_24 : decode cX0_spreads 24 = .ok (.if_icmp .ge 72, 3) := dk_162 0 72 (dk_at dksX0_spreads_1 0 rfl rfl)
theorem dX0_spreads_27 : decode cX0_spreads 27 = .ok (.aload_n 0, 1) := dk_42 (dk_at dksX0_spreads_1 3 rfl rfl)
theorem dX0_spreads_28 : decode cX0_spreads 28 = .ok (.getfield 68, 3) := dk_180 0 68 (dk_at dksX0_spreads_1 4 rfl rfl)
theorem dX0_spreads_31 : decode cX0_spreads 31 = .ok (.iload_n 3, 1) := dk_29 (dk_at dksX0_spreads_1 7 rfl rfl)
theorem dX0_spreads_32 : decode cX0_spreads 32 = .ok (.iaload, 1) := dk_46 (dk_at dksX0_spreads_1 8 rfl rfl)
theorem dX0_spreads_33 : decode cX0_spreads 33 = .ok (.iload_n 2, 1) := dk_28 (dk_at dksX0_spreads_1 9 rfl rfl)
theorem dX0_spreads_34 : decode cX0_spreads 34 = .ok (.if_icmp .ne 62, 3) := dk_160 0 62 (dk_at dksX0_spreads_1 10 rfl rfl)
theorem dX0_spreads_37 : decode cX0_spreads 37 = .ok (.iload_n 3, 1) := dk_29 (dk_at dksX0_spreads_1 13 rfl rfl)
theorem dX0_spreads_38 : decode cX0_spreads 38 = .ok (.iload 4, 2) := dk_21 4 (dk_at dksX0_spreads_1 14 rfl rfl)
theorem dX0_spreads_40 : decode cX0_spreads 40 = .ok (.invokestatic 206, 3) := dk_184 0 206 (dk_at dksX0_spreads_1 16 rfl rfl)
theorem dX0_spreads_43 : decode cX0_spreads 43 = .ok (.istore 5, 2) := dk_54 5 (dk_at dksX0_spreads_1 19 rfl rfl)
theorem dX0_spreads_45 : decode cX0_spreads 45 = .ok (.iload 5, 2) := dk_21 5 (dk_at dksX0_spreads_1 21 rfl rfl)
theorem dX0_spreads_47 : decode cX0_spreads 47 = .ok (.iconst (-1), 1) := dk_2 (dk_at dksX0_spreads_1 23 rfl rfl)
theorem dX0_spreads_48 : decode cX0_spreads 48 = .ok (.if_icmp .eq 42, 3) := dk_159 0 42 (dk_at dksX0_spreads_2 0 rfl rfl)
theorem dX0_spreads_51 : decode cX0_spreads 51 = .ok (.aload_n 0, 1) := dk_42 (dk_at dksX0_spreads_2 3 rfl rfl)
theorem dX0_spreads_52 : decode cX0_spreads 52 = .ok (.getfield 32, 3) := dk_180 0 32 (dk_at dksX0_spreads_2 4 rfl rfl)
theorem dX0_spreads_55 : decode cX0_spreads 55 = .ok (.iload 5, 2) := dk_21 5 (dk_at dksX0_spreads_2 7 rfl rfl)
theorem dX0_spreads_57 : decode cX0_spreads 57 = .ok (.iaload, 1) := dk_46 (dk_at dksX0_spreads_2 9 rfl rfl)
theorem dX0_spreads_58 : decode cX0_spreads 58 = .ok (.iconst 1, 1) := dk_4 (dk_at dksX0_spreads_2 10 rfl rfl)
theorem dX0_spreads_59 : decode cX0_spreads 59 = .ok (.if_icmp .ne 31, 3) := dk_160 0 31 (dk_at dksX0_spreads_2 11 rfl rfl)
theorem dX0_spreads_62 : decode cX0_spreads 62 = .ok (.aload_n 0, 1) := dk_42 (dk_at dksX0_spreads_2 14 rfl rfl)
theorem dX0_spreads_63 : decode cX0_spreads 63 = .ok (.getfield 68, 3) := dk_180 0 68 (dk_at dksX0_spreads_2 15 rfl rfl)
theorem dX0_spreads_66 : decode cX0_spreads 66 = .ok (.iload 5, 2) := dk_21 5 (dk_at dksX0_spreads_2 18 rfl rfl)
theorem dX0_spreads_68 : decode cX0_spreads 68 = .ok (.iaload, 1) := dk_46 (dk_at dksX0_spreads_2 20 rfl rfl)
theorem dX0_spreads_69 : decode cX0_spreads 69 = .ok (.iload_n 2, 1) := dk_28 (dk_at dksX0_spreads_2 21 rfl rfl)
theorem dX0_spreads_70 : decode cX0_spreads 70 = .ok (.iconst 1, 1) := dk_4 (dk_at dksX0_spreads_2 22 rfl rfl)
theorem dX0_spreads_71 : decode cX0_spreads 71 = .ok (.iadd, 1) := dk_96 (dk_at dksX0_spreads_2 23 rfl rfl)
theorem dX0_spreads_72 : decode cX0_spreads 72 = .ok (.if_icmp .gt 6, 3) := dk_163 0 6 (dk_at dksX0_spreads_3 0 rfl rfl)
theorem dX0_spreads_75 : decode cX0_spreads 75 = .ok (.goto 15, 3) := dk_167 0 15 (dk_at dksX0_spreads_3 3 rfl rfl)
theorem dX0_spreads_78 : decode cX0_spreads 78 = .ok (.aload_n 0, 1) := dk_42 (dk_at dksX0_spreads_3 6 rfl rfl)
theorem dX0_spreads_79 : decode cX0_spreads 79 = .ok (.getfield 68, 3) := dk_180 0 68 (dk_at dksX0_spreads_3 7 rfl rfl)
theorem dX0_spreads_82 : decode cX0_spreads 82 = .ok (.iload 5, 2) := dk_21 5 (dk_at dksX0_spreads_3 10 rfl rfl)
theorem dX0_spreads_84 : decode cX0_spreads 84 = .ok (.iload_n 2, 1) := dk_28 (dk_at dksX0_spreads_3 12 rfl rfl)
theorem dX0_spreads_85 : decode cX0_spreads 85 = .ok (.iconst 1, 1) := dk_4 (dk_at dksX0_spreads_3 13 rfl rfl)
theorem dX0_spreads_86 : decode cX0_spreads 86 = .ok (.iadd, 1) := dk_96 (dk_at dksX0_spreads_3 14 rfl rfl)
theorem dX0_spreads_87 : decode cX0_spreads 87 = .ok (.iastore, 1) := dk_79 (dk_at dksX0_spreads_3 15 rfl rfl)
theorem dX0_spreads_88 : decode cX0_spreads 88 = .ok (.iconst 1, 1) := dk_4 (dk_at dksX0_spreads_3 16 rfl rfl)
theorem dX0_spreads_89 : decode cX0_spreads 89 = .ok (.istore_n 1, 1) := dk_60 (dk_at dksX0_spreads_3 17 rfl rfl)
theorem dX0_spreads_90 : decode cX0_spreads 90 = .ok (.iinc 4 1, 3) := dk_132 4 1 (dk_at dksX0_spreads_3 18 rfl rfl)
theorem dX0_spreads_93 : decode cX0_spreads 93 = .ok (.goto (-72), 3) := dk_167 255 184 (dk_at dksX0_spreads_3 21 rfl rfl)
theorem dX0_spreads_96 : decode cX0_spreads 96 = .ok (.iinc 3 1, 3) := dk_132 3 1 (dk_at dksX0_spreads_4 0 rfl rfl)
theorem dX0_spreads_99 : decode cX0_spreads 99 = .ok (.goto (-87), 3) := dk_167 255 169 (dk_at dksX0_spreads_4 3 rfl rfl)
theorem dX0_spreads_102 : decode cX0_spreads 102 = .ok (.iinc 2 1, 3) := dk_132 2 1 (dk_at dksX0_spreads_4 6 rfl rfl)
theorem dX0_spreads_105 : decode cX0_spreads 105 = .ok (.goto (-101), 3) := dk_167 255 155 (dk_at dksX0_spreads_4 9 rfl rfl)
theorem dX0_spreads_108 : decode cX0_spreads 108 = .ok (.return_, 1) := dk_177 (dk_at dksX0_spreads_4 12 rfl rfl)
abbrev cX0_began : ByteArray := prog_1_method_27_code
def yX0_began : MethodName := ⟨RX0, "began", "(II)I"⟩
def dkwX0_began_4 : List UInt8 := [167, 0, 5, 21, 4, 172]
abbrev dktX0_began_4 : List UInt8 := dkwX0_began_4 ++ []
def dkwX0_began_3 : List UInt8 := [160, 0, 8, 21, 5, 167, 0, 5, 21, 4, 54, 4, 132, 5, 1, 167, 255, 198, 28, 154, 0, 7, 29]
abbrev dktX0_began_3 : List UInt8 := dkwX0_began_3 ++ dktX0_began_4
def dkwX0_began_2 : List UInt8 := [42, 21, 5, 182, 0, 216, 42, 27, 182, 0, 219, 154, 0, 6, 167, 0, 22, 132, 3, 1, 21, 4, 16, 254]
abbrev dktX0_began_2 : List UInt8 := dkwX0_began_2 ++ dktX0_began_3
def dkwX0_began_1 : List UInt8 := [54, 4, 3, 54, 5, 21, 5, 16, 96, 162, 0, 57, 42, 21, 5, 182, 0, 213, 154, 0, 6, 167, 0, 39]
abbrev dktX0_began_1 : List UInt8 := dkwX0_began_1 ++ dktX0_began_2
def dkwX0_began_0 : List UInt8 := [27, 3, 16, 60, 184, 0, 113, 153, 0, 11, 28, 5, 184, 0, 12, 154, 0, 5, 2, 172, 3, 62, 16, 254]
abbrev dktX0_began_0 : List UInt8 := dkwX0_began_0 ++ dktX0_began_1
theorem dksX0_began_0 : cX0_began.data.toList.drop 0 = dktX0_began_0 := by decide +kernel
theorem dksX0_began_1 : cX0_began.data.toList.drop 24 = dktX0_began_1 := dk_seg dksX0_began_0 24 rfl rfl
theorem dksX0_began_2 : cX0_began.data.toList.drop 48 = dktX0_began_2 := dk_seg dksX0_began_1 24 rfl rfl
theorem dksX0_began_3 : cX0_began.data.toList.drop 72 = dktX0_began_3 := dk_seg dksX0_began_2 24 rfl rfl
theorem dksX0_began_4 : cX0_began.data.toList.drop 95 = dktX0_began_4 := dk_seg dksX0_began_3 23 rfl rfl
theorem dX0_began_0 : decode cX0_began 0 = .ok (.iload_n 1, 1) := dk_27 (dk_at dksX0_began_0 0 rfl rfl)
theorem dX0_began_1 : decode cX0_began 1 = .ok (.iconst 0, 1) := dk_3 (dk_at dksX0_began_0 1 rfl rfl)
theorem dX0_began_2 : decode cX0_began 2 = .ok (.bipush 60, 2) := dk_16 60 (dk_at dksX0_began_0 2 rfl rfl)
theorem dX0_began_4 : decode cX0_began 4 = .ok (.invokestatic 113, 3) := dk_184 0 113 (dk_at dksX0_began_0 4 rfl rfl)
theorem dX0_began_7 : decode cX0_began 7 = .ok (.ifCond .eq 11, 3) := dk_153 0 11 (dk_at dksX0_began_0 7 rfl rfl)
theorem dX0_began_10 : decode cX0_began 10 = .ok (.iload_n 2, 1) := dk_28 (dk_at dksX0_began_0 10 rfl rfl)
theorem dX0_began_11 : decode cX0_began 11 = .ok (.iconst 2, 1) := dk_5 (dk_at dksX0_began_0 11 rfl rfl)
theorem dX0_began_12 : decode cX0_began 12 = .ok (.invokestatic 12, 3) := dk_184 0 12 (dk_at dksX0_began_0 12 rfl rfl)
theorem dX0_began_15 : decode cX0_began 15 = .ok (.ifCond .ne 5, 3) := dk_154 0 5 (dk_at dksX0_began_0 15 rfl rfl)
theorem dX0_began_18 : decode cX0_began 18 = .ok (.iconst (-1), 1) := dk_2 (dk_at dksX0_began_0 18 rfl rfl)
theorem dX0_began_19 : decode cX0_began 19 = .ok (.ireturn, 1) := dk_172 (dk_at dksX0_began_0 19 rfl rfl)
theorem dX0_began_20 : decode cX0_began 20 = .ok (.iconst 0, 1) := dk_3 (dk_at dksX0_began_0 20 rfl rfl)
theorem dX0_began_21 : decode cX0_began 21 = .ok (.istore_n 3, 1) := dk_62 (dk_at dksX0_began_0 21 rfl rfl)
theorem dX0_began_22 : decode cX0_began 22 = .ok (.bipush (-2), 2) := dk_16 254 (dk_at dksX0_began_0 22 rfl rfl)
theorem dX0_began_24 : decode cX0_began 24 = .ok (.istore 4, 2) := dk_54 4 (dk_at dksX0_began_1 0 rfl rfl)
theorem dX0_began_26 : decode cX0_began 26 = .ok (.iconst 0, 1) := dk_3 (dk_at dksX0_began_1 2 rfl rfl)
theorem dX0_began_27 : decode cX0_began 27 = .ok (.istore 5, 2) := dk_54 5 (dk_at dksX0_began_1 3 rfl rfl)
theorem dX0_began_29 : decode cX0_began 29 = .ok (.iload 5, 2) := dk_21 5 (dk_at dksX0_began_1 5 rfl rfl)
theorem dX0_began_31 : decode cX0_began 31 = .ok (.bipush 96, 2) := dk_16 96 (dk_at dksX0_began_1 7 rfl rfl)
theorem dX0_began_33 : decode cX0_began 33 = .ok (.if_icmp .ge 57, 3) := dk_162 0 57 (dk_at dksX0_began_1 9 rfl rfl)
theorem dX0_began_36 : decode cX0_began 36 = .ok (.aload_n 0, 1) := dk_42 (dk_at dksX0_began_1 12 rfl rfl)
theorem dX0_began_37 : decode cX0_began 37 = .ok (.iload 5, 2) := dk_21 5 (dk_at dksX0_began_1 13 rfl rfl)
theorem dX0_began_39 : decode cX0_began 39 = .ok (.invokevirtual 213, 3) := dk_182 0 213 (dk_at dksX0_began_1 15 rfl rfl)
theorem dX0_began_42 : decode cX0_began 42 = .ok (.ifCond .ne 6, 3) := dk_154 0 6 (dk_at dksX0_began_1 18 rfl rfl)
theorem dX0_began_45 : decode cX0_began 45 = .ok (.goto 39, 3) := dk_167 0 39 (dk_at dksX0_began_1 21 rfl rfl)
theorem dX0_began_48 : decode cX0_began 48 = .ok (.aload_n 0, 1) := dk_42 (dk_at dksX0_began_2 0 rfl rfl)
theorem dX0_began_49 : decode cX0_began 49 = .ok (.iload 5, 2) := dk_21 5 (dk_at dksX0_began_2 1 rfl rfl)
theorem dX0_began_51 : decode cX0_began 51 = .ok (.invokevirtual 216, 3) := dk_182 0 216 (dk_at dksX0_began_2 3 rfl rfl)
theorem dX0_began_54 : decode cX0_began 54 = .ok (.aload_n 0, 1) := dk_42 (dk_at dksX0_began_2 6 rfl rfl)
theorem dX0_began_55 : decode cX0_began 55 = .ok (.iload_n 1, 1) := dk_27 (dk_at dksX0_began_2 7 rfl rfl)
theorem dX0_began_56 : decode cX0_began 56 = .ok (.invokevirtual 219, 3) := dk_182 0 219 (dk_at dksX0_began_2 8 rfl rfl)
theorem dX0_began_59 : decode cX0_began 59 = .ok (.ifCond .ne 6, 3) := dk_154 0 6 (dk_at dksX0_began_2 11 rfl rfl)
theorem dX0_began_62 : decode cX0_began 62 = .ok (.goto 22, 3) := dk_167 0 22 (dk_at dksX0_began_2 14 rfl rfl)
theorem dX0_began_65 : decode cX0_began 65 = .ok (.iinc 3 1, 3) := dk_132 3 1 (dk_at dksX0_began_2 17 rfl rfl)
theorem dX0_began_68 : decode cX0_began 68 = .ok (.iload 4, 2) := dk_21 4 (dk_at dksX0_began_2 20 rfl rfl)
theorem dX0_began_70 : decode cX0_began 70 = .ok (.bipush (-2), 2) := dk_16 254 (dk_at dksX0_began_2 22 rfl rfl)
theorem dX0_began_72 : decode cX0_began 72 = .ok (.if_icmp .ne 8, 3) := dk_160 0 8 (dk_at dksX0_began_3 0 rfl rfl)
theorem dX0_began_75 : decode cX0_began 75 = .ok (.iload 5, 2) := dk_21 5 (dk_at dksX0_began_3 3 rfl rfl)
theorem dX0_began_77 : decode cX0_began 77 = .ok (.goto 5, 3) := dk_167 0 5 (dk_at dksX0_began_3 5 rfl rfl)
theorem dX0_began_80 : decode cX0_began 80 = .ok (.iload 4, 2) := dk_21 4 (dk_at dksX0_began_3 8 rfl rfl)
theorem dX0_began_82 : decode cX0_began 82 = .ok (.istore 4, 2) := dk_54 4 (dk_at dksX0_began_3 10 rfl rfl)
theorem dX0_began_84 : decode cX0_began 84 = .ok (.iinc 5 1, 3) := dk_132 5 1 (dk_at dksX0_began_3 12 rfl rfl)
theorem dX0_began_87 : decode cX0_began 87 = .ok (.goto (-58), 3) := dk_167 255 198 (dk_at dksX0_began_3 15 rfl rfl)
theorem dX0_began_90 : decode cX0_began 90 = .ok (.iload_n 2, 1) := dk_28 (dk_at dksX0_began_3 18 rfl rfl)
theorem dX0_began_91 : decode cX0_began 91 = .ok (.ifCond .ne 7, 3) := dk_154 0 7 (dk_at dksX0_began_3 19 rfl rfl)
theorem dX0_began_94 : decode cX0_began 94 = .ok (.iload_n 3, 1) := dk_29 (dk_at dksX0_began_3 22 rfl rfl)
theorem dX0_began_95 : decode cX0_began 95 = .ok (.goto 5, 3) := dk_167 0 5 (dk_at dksX0_began_4 0 rfl rfl)
theorem dX0_began_98 : decode cX0_began 98 = .ok (.iload 4, 2) := dk_21 4 (dk_at dksX0_began_4 3 rfl rfl)
theorem dX0_began_100 : decode cX0_began 100 = .ok (.ireturn, 1) := dk_172 (dk_at dksX0_began_4 5 rfl rfl)
abbrev cX0_isSo : ByteArray := prog_1_method_26_code
def yX0_isSo : MethodName := ⟨RX0, "isSo", "(I)Z"⟩
def dkwX0_isSo_2 : List UInt8 := [167, 0, 4, 3, 159, 0, 5, 3, 172, 132, 2, 1, 167, 255, 200, 4, 172]
abbrev dktX0_isSo_2 : List UInt8 := dkwX0_isSo_2 ++ []
def dkwX0_isSo_1 : List UInt8 := [27, 163, 0, 7, 4, 167, 0, 4, 3, 42, 180, 0, 47, 180, 0, 158, 28, 46, 153, 0, 7, 4]
abbrev dktX0_isSo_1 : List UInt8 := dkwX0_isSo_1 ++ dktX0_isSo_2
def dkwX0_isSo_0 : List UInt8 := [3, 61, 28, 16, 96, 162, 0, 56, 42, 180, 0, 32, 28, 46, 4, 160, 0, 40, 42, 180, 0, 68, 28, 46]
abbrev dktX0_isSo_0 : List UInt8 := dkwX0_isSo_0 ++ dktX0_isSo_1
theorem dksX0_isSo_0 : cX0_isSo.data.toList.drop 0 = dktX0_isSo_0 := by decide +kernel
theorem dksX0_isSo_1 : cX0_isSo.data.toList.drop 24 = dktX0_isSo_1 := dk_seg dksX0_isSo_0 24 rfl rfl
theorem dksX0_isSo_2 : cX0_isSo.data.toList.drop 46 = dktX0_isSo_2 := dk_seg dksX0_isSo_1 22 rfl rfl
theorem dX0_isSo_0 : decode cX0_isSo 0 = .ok (.iconst 0, 1) := dk_3 (dk_at dksX0_isSo_0 0 rfl rfl)
theorem dX0_isSo_1 : decode cX0_isSo 1 = .ok (.istore_n 2, 1) := dk_61 (dk_at dksX0_isSo_0 1 rfl rfl)
theorem dX0_isSo_2 : decode cX0_isSo 2 = .ok (.iload_n 2, 1) := dk_28 (dk_at dksX0_isSo_0 2 rfl rfl)
theorem dX0_isSo_3 : decode cX0_isSo 3 = .ok (.bipush 96, 2) := dk_16 96 (dk_at dksX0_isSo_0 3 rfl rfl)
theorem dX0_isSo_5 : decode cX0_isSo 5 = .ok (.if_icmp .ge 56, 3) := dk_162 0 56 (dk_at dksX0_isSo_0 5 rfl rfl)
theorem dX0_isSo_8 : decode cX0_isSo 8 = .ok (.aload_n 0, 1) := dk_42 (dk_at dksX0_isSo_0 8 rfl rfl)
theorem dX0_isSo_9 : decode cX0_isSo 9 = .ok (.getfield 32, 3) := dk_180 0 32 (dk_at dksX0_isSo_0 9 rfl rfl)
theorem dX0_isSo_12 : decode cX0_isSo 12 = .ok (.iload_n 2, 1) := dk_28 (dk_at dksX0_isSo_0 12 rfl rfl)
theorem dX0_isSo_13 : decode cX0_isSo 13 = .ok (.iaload, 1) := dk_46 (dk_at dksX0_isSo_0 13 rfl rfl)
theorem dX0_isSo_14 : decode cX0_isSo 14 = .ok (.iconst 1, 1) := dk_4 (dk_at dksX0_isSo_0 14 rfl rfl)
theorem dX0_isSo_15 : decode cX0_isSo 15 = .ok (.if_icmp .ne 40, 3) := dk_160 0 40 (dk_at dksX0_isSo_0 15 rfl rfl)
theorem dX0_isSo_18 : decode cX0_isSo 18 = .ok (.aload_n 0, 1) := dk_42 (dk_at dksX0_isSo_0 18 rfl rfl)
theorem dX0_isSo_19 : decode cX0_isSo 19 = .ok (.getfield 68, 3) := dk_180 0 68 (dk_at dksX0_isSo_0 19 rfl rfl)
theorem dX0_isSo_22 : decode cX0_isSo 22 = .ok (.iload_n 2, 1) := dk_28 (dk_at dksX0_isSo_0 22 rfl rfl)
theorem dX0_isSo_23 : decode cX0_isSo 23 = .ok (.iaload, 1) := dk_46 (dk_at dksX0_isSo_0 23 rfl rfl)
theorem dX0_isSo_24 : decode cX0_isSo 24 = .ok (.iload_n 1, 1) := dk_27 (dk_at dksX0_isSo_1 0 rfl rfl)
theorem dX0_isSo_25 : decode cX0_isSo 25 = .ok (.if_icmp .gt 7, 3) := dk_163 0 7 (dk_at dksX0_isSo_1 1 rfl rfl)
theorem dX0_isSo_28 : decode cX0_isSo 28 = .ok (.iconst 1, 1) := dk_4 (dk_at dksX0_isSo_1 4 rfl rfl)
theorem dX0_isSo_29 : decode cX0_isSo 29 = .ok (.goto 4, 3) := dk_167 0 4 (dk_at dksX0_isSo_1 5 rfl rfl)
theorem dX0_isSo_32 : decode cX0_isSo 32 = .ok (.iconst 0, 1) := dk_3 (dk_at dksX0_isSo_1 8 rfl rfl)
theorem dX0_isSo_33 : decode cX0_isSo 33 = .ok (.aload_n 0, 1) := dk_42 (dk_at dksX0_isSo_1 9 rfl rfl)
theorem dX0_isSo_34 : decode cX0_isSo 34 = .ok (.getfield 47, 3) := dk_180 0 47 (dk_at dksX0_isSo_1 10 rfl rfl)
theorem dX0_isSo_37 : decode cX0_isSo 37 = .ok (.getfield 158, 3) := dk_180 0 158 (dk_at dksX0_isSo_1 13 rfl rfl)
theorem dX0_isSo_40 : decode cX0_isSo 40 = .ok (.iload_n 2, 1) := dk_28 (dk_at dksX0_isSo_1 16 rfl rfl)
theorem dX0_isSo_41 : decode cX0_isSo 41 = .ok (.iaload, 1) := dk_46 (dk_at dksX0_isSo_1 17 rfl rfl)
theorem dX0_isSo_42 : decode cX0_isSo 42 = .ok (.ifCond .eq 7, 3) := dk_153 0 7 (dk_at dksX0_isSo_1 18 rfl rfl)
theorem dX0_isSo_45 : decode cX0_isSo 45 = .ok (.iconst 1, 1) := dk_4 (dk_at dksX0_isSo_1 21 rfl rfl)
theorem dX0_isSo_46 : decode cX0_isSo 46 = .ok (.goto 4, 3) := dk_167 0 4 (dk_at dksX0_isSo_2 0 rfl rfl)
theorem dX0_isSo_49 : decode cX0_isSo 49 = .ok (.iconst 0, 1) := dk_3 (dk_at dksX0_isSo_2 3 rfl rfl)
theorem dX0_isSo_50 : decode cX0_isSo 50 = .ok (.if_icmp .eq 5, 3) := dk_159 0 5 (dk_at dksX0_isSo_2 4 rfl rfl)
theorem dX0_isSo_53 : decode cX0_isSo 53 = .ok (.iconst 0, 1) := dk_3 (dk_at dksX0_isSo_2 7 rfl rfl)
theorem dX0_isSo_54 : decode cX0_isSo 54 = .ok (.ireturn, 1) := dk_172 (dk_at dksX0_isSo_2 8 rfl rfl)
theorem dX0_isSo_55 : decode cX0_isSo 55 = .ok (.iinc 2 1, 3) := dk_132 2 1 (dk_at dksX0_isSo_2 9 rfl rfl)
theorem dX0_isSo_58 : decode cX0_isSo 58 = .ok (.goto (-56), 3) := dk_167 255 200 (dk_at dksX0_isSo_2 12 rfl rfl)
theorem dX0_isSo_61 : decode cX0_isSo 61 = .ok (.iconst 1, 1) := dk_4 (dk_at dksX0_isSo_2 15 rfl rfl)
theorem dX0_isSo_62 : decode cX0_isSo 62 = .ok (.ireturn, 1) := dk_172 (dk_at dksX0_isSo_2 16 rfl rfl)
abbrev cX0_breaks : ByteArray := prog_1_method_33_code
def yX0_breaks : MethodName := ⟨RX0, "breaks", "(II)I"⟩
def dkwX0_breaks_5 : List UInt8 := [27, 28, 182, 0, 235, 153, 0, 15, 42, 27, 28, 182, 0, 238, 132, 3, 1, 167, 255, 238, 29, 172]
abbrev dktX0_breaks_5 : List UInt8 := dkwX0_breaks_5 ++ []
def dkwX0_breaks_4 : List UInt8 := [180, 0, 73, 29, 50, 21, 4, 3, 84, 132, 4, 1, 167, 255, 237, 132, 3, 1, 167, 255, 215, 3, 62, 42]
abbrev dktX0_breaks_4 : List UInt8 := dkwX0_breaks_4 ++ dktX0_breaks_5
def dkwX0_breaks_3 : List UInt8 := [16, 96, 162, 0, 41, 42, 180, 0, 76, 29, 3, 84, 3, 54, 4, 21, 4, 7, 162, 0, 19, 42]
abbrev dktX0_breaks_3 : List UInt8 := dkwX0_breaks_3 ++ dktX0_breaks_4
def dkwX0_breaks_2 : List UInt8 := [162, 0, 21, 27, 29, 184, 0, 206, 28, 160, 0, 6, 16, 254, 172, 132, 3, 1, 167, 255, 236, 3, 62, 29]
abbrev dktX0_breaks_2 : List UInt8 := dkwX0_breaks_2 ++ dktX0_breaks_3
def dkwX0_breaks_1 : List UInt8 := [172, 42, 27, 182, 0, 213, 153, 0, 11, 42, 28, 182, 0, 213, 154, 0, 6, 16, 253, 172, 3, 62, 29, 7]
abbrev dktX0_breaks_1 : List UInt8 := dkwX0_breaks_1 ++ dktX0_breaks_2
def dkwX0_breaks_0 : List UInt8 := [27, 16, 96, 184, 0, 12, 153, 0, 17, 28, 16, 96, 184, 0, 12, 153, 0, 8, 27, 28, 160, 0, 5, 2]
abbrev dktX0_breaks_0 : List UInt8 := dkwX0_breaks_0 ++ dktX0_breaks_1
theorem dksX0_breaks_0 : cX0_breaks.data.toList.drop 0 = dktX0_breaks_0 := by decide +kernel
theorem dksX0_breaks_1 : cX0_breaks.data.toList.drop 24 = dktX0_breaks_1 := dk_seg dksX0_breaks_0 24 rfl rfl
theorem dksX0_breaks_2 : cX0_breaks.data.toList.drop 48 = dktX0_breaks_2 := dk_seg dksX0_breaks_1 24 rfl rfl
theorem dksX0_breaks_3 : cX0_breaks.data.toList.drop 72 = dktX0_breaks_3 := dk_seg dksX0_breaks_2 24 rfl rfl
theorem dksX0_breaks_4 : cX0_breaks.data.toList.drop 94 = dktX0_breaks_4 := dk_seg dksX0_breaks_3 22 rfl rfl
theorem dksX0_breaks_5 : cX0_breaks.data.toList.drop 118 = dktX0_breaks_5 := dk_seg dksX0_breaks_4 24 rfl rfl
theorem dX0_breaks_0 : decode cX0_breaks 0 = .ok (.iload_n 1, 1) := dk_27 (dk_at dksX0_breaks_0 0 rfl rfl)
theorem dX0_breaks_1 : decode cX0_breaks 1 = .ok (.bipush 96, 2) := dk_16 96 (dk_at dksX0_breaks_0 1 rfl rfl)
theorem dX0_breaks_3 : decode cX0_breaks 3 = .ok (.invokestatic 12, 3) := dk_184 0 12 (dk_at dksX0_breaks_0 3 rfl rfl)
theorem dX0_breaks_6 : decode cX0_breaks 6 = .ok (.ifCond .eq 17, 3) := dk_153 0 17 (dk_at dksX0_breaks_0 6 rfl rfl)
theorem dX0_breaks_9 : decode cX0_breaks 9 = .ok (.iload_n 2, 1) := dk_28 (dk_at dksX0_breaks_0 9 rfl rfl)
theorem dX0_breaks_10 : decode cX0_breaks 10 = .ok (.bipush 96, 2) := dk_16 96 (dk_at dksX0_breaks_0 10 rfl rfl)
theorem dX0_breaks_12 : decode cX0_breaks 12 = .ok (.invokestatic 12, 3) := dk_184 0 12 (dk_at dksX0_breaks_0 12 rfl rfl)
theorem dX0_breaks_15 : decode cX0_breaks 15 = .ok (.ifCond .eq 8, 3) := dk_153 0 8 (dk_at dksX0_breaks_0 15 rfl rfl)
theorem dX0_breaks_18 : decode cX0_breaks 18 = .ok (.iload_n 1, 1) := dk_27 (dk_at dksX0_breaks_0 18 rfl rfl)
theorem dX0_breaks_19 : decode cX0_breaks 19 = .ok (.iload_n 2, 1) := dk_28 (dk_at dksX0_breaks_0 19 rfl rfl)
theorem dX0_breaks_20 : decode cX0_breaks 20 = .ok (.if_icmp .ne 5, 3) := dk_160 0 5 (dk_at dksX0_breaks_0 20 rfl rfl)
theorem dX0_breaks_23 : decode cX0_breaks 23 = .ok (.iconst (-1), 1) := dk_2 (dk_at dksX0_breaks_0 23 rfl rfl)
theorem dX0_breaks_24 : decode cX0_breaks 24 = .ok (.ireturn, 1) := dk_172 (dk_at dksX0_breaks_1 0 rfl rfl)
theorem dX0_breaks_25 : decode cX0_breaks 25 = .ok (.aload_n 0, 1) := dk_42 (dk_at dksX0_breaks_1 1 rfl rfl)
theorem dX0_breaks_26 : decode cX0_breaks 26 = .ok (.iload_n 1, 1) := dk_27 (dk_at dksX0_breaks_1 2 rfl rfl)
theorem dX0_breaks_27 : decode cX0_breaks 27 = .ok (.invokevirtual 213, 3) := dk_182 0 213 (dk_at dksX0_breaks_1 3 rfl rfl)
theorem dX0_breaks_30 : decode cX0_breaks 30 = .ok (.ifCond .eq 11, 3) := dk_153 0 11 (dk_at dksX0_breaks_1 6 rfl rfl)
theorem dX0_breaks_33 : decode cX0_breaks 33 = .ok (.aload_n 0, 1) := dk_42 (dk_at dksX0_breaks_1 9 rfl rfl)
theorem dX0_breaks_34 : decode cX0_breaks 34 = .ok (.iload_n 2, 1) := dk_28 (dk_at dksX0_breaks_1 10 rfl rfl)
theorem dX0_breaks_35 : decode cX0_breaks 35 = .ok (.invokevirtual 213, 3) := dk_182 0 213 (dk_at dksX0_breaks_1 11 rfl rfl)
theorem dX0_breaks_38 : decode cX0_breaks 38 = .ok (.ifCond .ne 6, 3) := dk_154 0 6 (dk_at dksX0_breaks_1 14 rfl rfl)
theorem dX0_breaks_41 : decode cX0_breaks 41 = .ok (.bipush (-3), 2) := dk_16 253 (dk_at dksX0_breaks_1 17 rfl rfl)
theorem dX0_breaks_43 : decode cX0_breaks 43 = .ok (.ireturn, 1) := dk_172 (dk_at dksX0_breaks_1 19 rfl rfl)
theorem dX0_breaks_44 : decode cX0_breaks 44 = .ok (.iconst 0, 1) := dk_3 (dk_at dksX0_breaks_1 20 rfl rfl)
theorem dX0_breaks_45 : decode cX0_breaks 45 = .ok (.istore_n 3, 1) := dk_62 (dk_at dksX0_breaks_1 21 rfl rfl)
theorem dX0_breaks_46 : decode cX0_breaks 46 = .ok (.iload_n 3, 1) := dk_29 (dk_at dksX0_breaks_1 22 rfl rfl)
theorem dX0_breaks_47 : decode cX0_breaks 47 = .ok (.iconst 4, 1) := dk_7 (dk_at dksX0_breaks_1 23 rfl rfl)
theorem dX0_breaks_48 : decode cX0_breaks 48 = .ok (.if_icmp .ge 21, 3) := dk_162 0 21 (dk_at dksX0_breaks_2 0 rfl rfl)
theorem dX0_breaks_51 : decode cX0_breaks 51 = .ok (.iload_n 1, 1) := dk_27 (dk_at dksX0_breaks_2 3 rfl rfl)
theorem dX0_breaks_52 : decode cX0_breaks 52 = .ok (.iload_n 3, 1) := dk_29 (dk_at dksX0_breaks_2 4 rfl rfl)
theorem dX0_breaks_53 : decode cX0_breaks 53 = .ok (.invokestatic 206, 3) := dk_184 0 206 (dk_at dksX0_breaks_2 5 rfl rfl)
theorem dX0_breaks_56 : decode cX0_breaks 56 = .ok (.iload_n 2, 1) := dk_28 (dk_at dksX0_breaks_2 8 rfl rfl)
theorem dX0_breaks_57 : decode cX0_breaks 57 = .ok (.if_icmp .ne 6, 3) := dk_160 0 6 (dk_at dksX0_breaks_2 9 rfl rfl)
theorem dX0_breaks_60 : decode cX0_breaks 60 = .ok (.bipush (-2), 2) := dk_16 254 (dk_at dksX0_breaks_2 12 rfl rfl)
theorem dX0_breaks_62 : decode cX0_breaks 62 = .ok (.ireturn, 1) := dk_172 (dk_at dksX0_breaks_2 14 rfl rfl)
theorem dX0_breaks_63 : decode cX0_breaks 63 = .ok (.iinc 3 1, 3) := dk_132 3 1 (dk_at dksX0_breaks_2 15 rfl rfl)
theorem dX0_breaks_66 : decode cX0_breaks 66 = .ok (.goto (-20), 3) := dk_167 255 236 (dk_at dksX0_breaks_2 18 rfl rfl)
theorem dX0_breaks_69 : decode cX0_breaks 69 = .ok (.iconst 0, 1) := dk_3 (dk_at dksX0_breaks_2 21 rfl rfl)
theorem dX0_breaks_70 : decode cX0_breaks 70 = .ok (.istore_n 3, 1) := dk_62 (dk_at dksX0_breaks_2 22 rfl rfl)
theorem dX0_breaks_71 : decode cX0_breaks 71 = .ok (.iload_n 3, 1) := dk_29 (dk_at dksX0_breaks_2 23 rfl rfl)
theorem dX0_breaks_72 : decode cX0_breaks 72 = .ok (.bipush 96, 2) := dk_16 96 (dk_at dksX0_breaks_3 0 rfl rfl)
theorem dX0_breaks_74 : decode cX0_breaks 74 = .ok (.if_icmp .ge 41, 3) := dk_162 0 41 (dk_at dksX0_breaks_3 2 rfl rfl)
theorem dX0_breaks_77 : decode cX0_breaks 77 = .ok (.aload_n 0, 1) := dk_42 (dk_at dksX0_breaks_3 5 rfl rfl)
theorem dX0_breaks_78 : decode cX0_breaks 78 = .ok (.getfield 76, 3) := dk_180 0 76 (dk_at dksX0_breaks_3 6 rfl rfl)
theorem dX0_breaks_81 : decode cX0_breaks 81 = .ok (.iload_n 3, 1) := dk_29 (dk_at dksX0_breaks_3 9 rfl rfl)
theorem dX0_breaks_82 : decode cX0_breaks 82 = .ok (.iconst 0, 1) := dk_3 (dk_at dksX0_breaks_3 10 rfl rfl)
theorem dX0_breaks_83 : decode cX0_breaks 83 = .ok (.bastore, 1) := dk_84 (dk_at dksX0_breaks_3 11 rfl rfl)
theorem dX0_breaks_84 : decode cX0_breaks 84 = .ok (.iconst 0, 1) := dk_3 (dk_at dksX0_breaks_3 12 rfl rfl)
theorem dX0_breaks_85 : decode cX0_breaks 85 = .ok (.istore 4, 2) := dk_54 4 (dk_at dksX0_breaks_3 13 rfl rfl)
theorem dX0_breaks_87 : decode cX0_breaks 87 = .ok (.iload 4, 2) := dk_21 4 (dk_at dksX0_breaks_3 15 rfl rfl)
theorem dX0_breaks_89 : decode cX0_breaks 89 = .ok (.iconst 4, 1) := dk_7 (dk_at dksX0_breaks_3 17 rfl rfl)
theorem dX0_breaks_90 : decode cX0_breaks 90 = .ok (.if_icmp .ge 19, 3) := dk_162 0 19 (dk_at dksX0_breaks_3 18 rfl rfl)
theorem dX0_breaks_93 : decode cX0_breaks 93 = .ok (.aload_n 0, 1) := dk_42 (dk_at dksX0_breaks_3 21 rfl rfl)
theorem dX0_breaks_94 : decode cX0_breaks 94 = .ok (.getfield 73, 3) := dk_180 0 73 (dk_at dksX0_breaks_4 0 rfl rfl)
theorem dX0_breaks_97 : decode cX0_breaks 97 = .ok (.iload_n 3, 1) := dk_29 (dk_at dksX0_breaks_4 3 rfl rfl)
theorem dX0_breaks_98 : decode cX0_breaks 98 = .ok (.aaload, 1) := dk_50 (dk_at dksX0_breaks_4 4 rfl rfl)
theorem dX0_breaks_99 : decode cX0_breaks 99 = .ok (.iload 4, 2) := dk_21 4 (dk_at dksX0_breaks_4 5 rfl rfl)
theorem dX0_breaks_101 : decode cX0_breaks 101 = .ok (.iconst 0, 1) := dk_3 (dk_at dksX0_breaks_4 7 rfl rfl)
theorem dX0_breaks_102 : decode cX0_breaks 102 = .ok (.bastore, 1) := dk_84 (dk_at dksX0_breaks_4 8 rfl rfl)
theorem dX0_breaks_103 : decode cX0_breaks 103 = .ok (.iinc 4 1, 3) := dk_132 4 1 (dk_at dksX0_breaks_4 9 rfl rfl)
theorem dX0_breaks_106 : decode cX0_breaks 106 = .ok (.goto (-19), 3) := dk_167 255 237 (dk_at dksX0_breaks_4 12 rfl rfl)
theorem dX0_breaks_109 : decode cX0_breaks 109 = .ok (.iinc 3 1, 3) := dk_132 3 1 (dk_at dksX0_breaks_4 15 rfl rfl)
theorem dX0_breaks_112 : decode cX0_breaks 112 = .ok (.goto (-41), 3) := dk_167 255 215 (dk_at dksX0_breaks_4 18 rfl rfl)
theorem dX0_breaks_115 : decode cX0_breaks 115 = .ok (.iconst 0, 1) := dk_3 (dk_at dksX0_breaks_4 21 rfl rfl)
theorem dX0_breaks_116 : decode cX0_breaks 116 = .ok (.istore_n 3, 1) := dk_62 (dk_at dksX0_breaks_4 22 rfl rfl)
theorem dX0_breaks_117 : decode cX0_breaks 117 = .ok (.aload_n 0, 1) := dk_42 (dk_at dksX0_breaks_4 23 rfl rfl)
theorem dX0_breaks_118 : decode cX0_breaks 118 = .ok (.iload_n 1, 1) := dk_27 (dk_at dksX0_breaks_5 0 rfl rfl)
theorem dX0_breaks_119 : decode cX0_breaks 119 = .ok (.iload_n 2, 1) := dk_28 (dk_at dksX0_breaks_5 1 rfl rfl)
theorem dX0_breaks_120 : decode cX0_breaks 120 = .ok (.invokevirtual 235, 3) := dk_182 0 235 (dk_at dksX0_breaks_5 2 rfl rfl)
theorem dX0_breaks_123 : decode cX0_breaks 123 = .ok (.ifCond .eq 15, 3) := dk_153 0 15 (dk_at dksX0_breaks_5 5 rfl rfl)
theorem dX0_breaks_126 : decode cX0_breaks 126 = .ok (.aload_n 0, 1) := dk_42 (dk_at dksX0_breaks_5 8 rfl rfl)
theorem dX0_breaks_127 : decode cX0_breaks 127 = .ok (.iload_n 1, 1) := dk_27 (dk_at dksX0_breaks_5 9 rfl rfl)
theorem dX0_breaks_128 : decode cX0_breaks 128 = .ok (.iload_n 2, 1) := dk_28 (dk_at dksX0_breaks_5 10 rfl rfl)
theorem dX0_breaks_129 : decode cX0_breaks 129 = .ok (.invokevirtual 238, 3) := dk_182 0 238 (dk_at dksX0_breaks_5 11 rfl rfl)
theorem dX0_breaks_132 : decode cX0_breaks 132 = .ok (.iinc 3 1, 3) := dk_132 3 1 (dk_at dksX0_breaks_5 14 rfl rfl)
theorem dX0_breaks_135 : decode cX0_breaks 135 = .ok (.goto (-18), 3) := dk_167 255 238 (dk_at dksX0_breaks_5 17 rfl rfl)
theorem dX0_breaks_138 : decode cX0_breaks 138 = .ok (.iload_n 3, 1) := dk_29 (dk_at dksX0_breaks_5 20 rfl rfl)
theorem dX0_breaks_139 : decode cX0_breaks 139 = .ok (.ireturn, 1) := dk_172 (dk_at dksX0_breaks_5 21 rfl rfl)
abbrev cX0_finds : ByteArray := prog_1_method_30_code
def yX0_finds : MethodName := ⟨RX0, "finds", "(II)Z"⟩
def dkwX0_finds_4 : List UInt8 := [28, 104, 46, 2, 159, 0, 7, 4, 167, 0, 4, 3, 172]
abbrev dktX0_finds_4 : List UInt8 := dkwX0_finds_4 ++ []
def dkwX0_finds_3 : List UInt8 := [160, 0, 19, 42, 42, 180, 0, 83, 29, 46, 182, 0, 229, 132, 3, 1, 167, 255, 223, 42, 180, 0, 80, 5]
abbrev dktX0_finds_3 : List UInt8 := dkwX0_finds_3 ++ dktX0_finds_4
def dkwX0_finds_2 : List UInt8 := [5, 27, 104, 79, 3, 62, 29, 42, 180, 0, 222, 162, 0, 31, 42, 180, 0, 80, 5, 28, 104, 46, 2]
abbrev dktX0_finds_2 : List UInt8 := dkwX0_finds_2 ++ dktX0_finds_3
def dkwX0_finds_1 : List UInt8 := [181, 0, 222, 42, 5, 27, 104, 4, 96, 5, 27, 104, 4, 96, 182, 0, 225, 42, 180, 0, 80, 5, 27, 104]
abbrev dktX0_finds_1 : List UInt8 := dkwX0_finds_1 ++ dktX0_finds_2
def dkwX0_finds_0 : List UInt8 := [3, 62, 29, 17, 0, 192, 162, 0, 16, 42, 180, 0, 80, 29, 2, 79, 132, 3, 1, 167, 255, 239, 42, 3]
abbrev dktX0_finds_0 : List UInt8 := dkwX0_finds_0 ++ dktX0_finds_1
theorem dksX0_finds_0 : cX0_finds.data.toList.drop 0 = dktX0_finds_0 := by decide +kernel
theorem dksX0_finds_1 : cX0_finds.data.toList.drop 24 = dktX0_finds_1 := dk_seg dksX0_finds_0 24 rfl rfl
theorem dksX0_finds_2 : cX0_finds.data.toList.drop 48 = dktX0_finds_2 := dk_seg dksX0_finds_1 24 rfl rfl
theorem dksX0_finds_3 : cX0_finds.data.toList.drop 71 = dktX0_finds_3 := dk_seg dksX0_finds_2 23 rfl rfl
theorem dksX0_finds_4 : cX0_finds.data.toList.drop 95 = dktX0_finds_4 := dk_seg dksX0_finds_3 24 rfl rfl
theorem dX0_finds_0 : decode cX0_finds 0 = .ok (.iconst 0, 1) := dk_3 (dk_at dksX0_finds_0 0 rfl rfl)
theorem dX0_finds_1 : decode cX0_finds 1 = .ok (.istore_n 3, 1) := dk_62 (dk_at dksX0_finds_0 1 rfl rfl)
theorem dX0_finds_2 : decode cX0_finds 2 = .ok (.iload_n 3, 1) := dk_29 (dk_at dksX0_finds_0 2 rfl rfl)
theorem dX0_finds_3 : decode cX0_finds 3 = .ok (.sipush 192, 3) := dk_17 0 192 (dk_at dksX0_finds_0 3 rfl rfl)
theorem dX0_finds_6 : decode cX0_finds 6 = .ok (.if_icmp .ge 16, 3) := dk_162 0 16 (dk_at dksX0_finds_0 6 rfl rfl)
theorem dX0_finds_9 : decode cX0_finds 9 = .ok (.aload_n 0, 1) := dk_42 (dk_at dksX0_finds_0 9 rfl rfl)
theorem dX0_finds_10 : decode cX0_finds 10 = .ok (.getfield 80, 3) := dk_180 0 80 (dk_at dksX0_finds_0 10 rfl rfl)
theorem dX0_finds_13 : decode cX0_finds 13 = .ok (.iload_n 3, 1) := dk_29 (dk_at dksX0_finds_0 13 rfl rfl)
theorem dX0_finds_14 : decode cX0_finds 14 = .ok (.iconst (-1), 1) := dk_2 (dk_at dksX0_finds_0 14 rfl rfl)
theorem dX0_finds_15 : decode cX0_finds 15 = .ok (.iastore, 1) := dk_79 (dk_at dksX0_finds_0 15 rfl rfl)
theorem dX0_finds_16 : decode cX0_finds 16 = .ok (.iinc 3 1, 3) := dk_132 3 1 (dk_at dksX0_finds_0 16 rfl rfl)
theorem dX0_finds_19 : decode cX0_finds 19 = .ok (.goto (-17), 3) := dk_167 255 239 (dk_at dksX0_finds_0 19 rfl rfl)
theorem dX0_finds_22 : decode cX0_finds 22 = .ok (.aload_n 0, 1) := dk_42 (dk_at dksX0_finds_0 22 rfl rfl)
theorem dX0_finds_23 : decode cX0_finds 23 = .ok (.iconst 0, 1) := dk_3 (dk_at dksX0_finds_0 23 rfl rfl)
theorem dX0_finds_24 : decode cX0_finds 24 = .ok (.putfield 222, 3) := dk_181 0 222 (dk_at dksX0_finds_1 0 rfl rfl)
theorem dX0_finds_27 : decode cX0_finds 27 = .ok (.aload_n 0, 1) := dk_42 (dk_at dksX0_finds_1 3 rfl rfl)
theorem dX0_finds_28 : decode cX0_finds 28 = .ok (.iconst 2, 1) := dk_5 (dk_at dksX0_finds_1 4 rfl rfl)
theorem dX0_finds_29 : decode cX0_finds 29 = .ok (.iload_n 1, 1) := dk_27 (dk_at dksX0_finds_1 5 rfl rfl)
theorem dX0_finds_30 : decode cX0_finds 30 = .ok (.imul, 1) := dk_104 (dk_at dksX0_finds_1 6 rfl rfl)
theorem dX0_finds_31 : decode cX0_finds 31 = .ok (.iconst 1, 1) := dk_4 (dk_at dksX0_finds_1 7 rfl rfl)
theorem dX0_finds_32 : decode cX0_finds 32 = .ok (.iadd, 1) := dk_96 (dk_at dksX0_finds_1 8 rfl rfl)
theorem dX0_finds_33 : decode cX0_finds 33 = .ok (.iconst 2, 1) := dk_5 (dk_at dksX0_finds_1 9 rfl rfl)
theorem dX0_finds_34 : decode cX0_finds 34 = .ok (.iload_n 1, 1) := dk_27 (dk_at dksX0_finds_1 10 rfl rfl)
theorem dX0_finds_35 : decode cX0_finds 35 = .ok (.imul, 1) := dk_104 (dk_at dksX0_finds_1 11 rfl rfl)
theorem dX0_finds_36 : decode cX0_finds 36 = .ok (.iconst 1, 1) := dk_4 (dk_at dksX0_finds_1 12 rfl rfl)
theorem dX0_finds_37 : decode cX0_finds 37 = .ok (.iadd, 1) := dk_96 (dk_at dksX0_finds_1 13 rfl rfl)
theorem dX0_finds_38 : decode cX0_finds 38 = .ok (.invokevirtual 225, 3) := dk_182 0 225 (dk_at dksX0_finds_1 14 rfl rfl)
theorem dX0_finds_41 : decode cX0_finds 41 = .ok (.aload_n 0, 1) := dk_42 (dk_at dksX0_finds_1 17 rfl rfl)
theorem dX0_finds_42 : decode cX0_finds 42 = .ok (.getfield 80, 3) := dk_180 0 80 (dk_at dksX0_finds_1 18 rfl rfl)
theorem dX0_finds_45 : decode cX0_finds 45 = .ok (.iconst 2, 1) := dk_5 (dk_at dksX0_finds_1 21 rfl rfl)
theorem dX0_finds_46 : decode cX0_finds 46 = .ok (.iload_n 1, 1) := dk_27 (dk_at dksX0_finds_1 22 rfl rfl)
theorem dX0_finds_47 : decode cX0_finds 47 = .ok (.imul, 1) := dk_104 (dk_at dksX0_finds_1 23 rfl rfl)
theorem dX0_finds_48 : decode cX0_finds 48 = .ok (.iconst 2, 1) := dk_5 (dk_at dksX0_finds_2 0 rfl rfl)
theorem dX0_finds_49 : decode cX0_finds 49 = .ok (.iload_n 1, 1) := dk_27 (dk_at dksX0_finds_2 1 rfl rfl)
theorem dX0_finds_50 : decode cX0_finds 50 = .ok (.imul, 1) := dk_104 (dk_at dksX0_finds_2 2 rfl rfl)
theorem dX0_finds_51 : decode cX0_finds 51 = .ok (.iastore, 1) := dk_79 (dk_at dksX0_finds_2 3 rfl rfl)
theorem dX0_finds_52 : decode cX0_finds 52 = .ok (.iconst 0, 1) := dk_3 (dk_at dksX0_finds_2 4 rfl rfl)
theorem dX0_finds_53 : decode cX0_finds 53 = .ok (.istore_n 3, 1) := dk_62 (dk_at dksX0_finds_2 5 rfl rfl)
theorem dX0_finds_54 : decode cX0_finds 54 = .ok (.iload_n 3, 1) := dk_29 (dk_at dksX0_finds_2 6 rfl rfl)
theorem dX0_finds_55 : decode cX0_finds 55 = .ok (.aload_n 0, 1) := dk_42 (dk_at dksX0_finds_2 7 rfl rfl)
theorem dX0_finds_56 : decode cX0_finds 56 = .ok (.getfield 222, 3) := dk_180 0 222 (dk_at dksX0_finds_2 8 rfl rfl)
theorem dX0_finds_59 : decode cX0_finds 59 = .ok (.if_icmp .ge 31, 3) := dk_162 0 31 (dk_at dksX0_finds_2 11 rfl rfl)
theorem dX0_finds_62 : decode cX0_finds 62 = .ok (.aload_n 0, 1) := dk_42 (dk_at dksX0_finds_2 14 rfl rfl)
theorem dX0_finds_63 : decode cX0_finds 63 = .ok (.getfield 80, 3) := dk_180 0 80 (dk_at dksX0_finds_2 15 rfl rfl)
theorem dX0_finds_66 : decode cX0_finds 66 = .ok (.iconst 2, 1) := dk_5 (dk_at dksX0_finds_2 18 rfl rfl)
theorem dX0_finds_67 : decode cX0_finds 67 = .ok (.iload_n 2, 1) := dk_28 (dk_at dksX0_finds_2 19 rfl rfl)
theorem dX0_finds_68 : decode cX0_finds 68 = .ok (.imul, 1) := dk_104 (dk_at dksX0_finds_2 20 rfl rfl)
theorem dX0_finds_69 : decode cX0_finds 69 = .ok (.iaload, 1) := dk_46 (dk_at dksX0_finds_2 21 rfl rfl)
theorem dX0_finds_70 : decode cX0_finds 70 = .ok (.iconst (-1), 1) := dk_2 (dk_at dksX0_finds_2 22 rfl rfl)
theorem dX0_finds_71 : decode cX0_finds 71 = .ok (.if_icmp .ne 19, 3) := dk_160 0 19 (dk_at dksX0_finds_3 0 rfl rfl)
theorem dX0_finds_74 : decode cX0_finds 74 = .ok (.aload_n 0, 1) := dk_42 (dk_at dksX0_finds_3 3 rfl rfl)
theorem dX0_finds_75 : decode cX0_finds 75 = .ok (.aload_n 0, 1) := dk_42 (dk_at dksX0_finds_3 4 rfl rfl)
theorem dX0_finds_76 : decode cX0_finds 76 = .ok (.getfield 83, 3) := dk_180 0 83 (dk_at dksX0_finds_3 5 rfl rfl)
theorem dX0_finds_79 : decode cX0_finds 79 = .ok (.iload_n 3, 1) := dk_29 (dk_at dksX0_finds_3 8 rfl rfl)
theorem dX0_finds_80 : decode cX0_finds 80 = .ok (.iaload, 1) := dk_46 (dk_at dksX0_finds_3 9 rfl rfl)
theorem dX0_finds_81 : decode cX0_finds 81 = .ok (.invokevirtual 229, 3) := dk_182 0 229 (dk_at dksX0_finds_3 10 rfl rfl)
theorem dX0_finds_84 : decode cX0_finds 84 = .ok (.iinc 3 1, 3) := dk_132 3 1 (dk_at dksX0_finds_3 13 rfl rfl)
theorem dX0_finds_87 : decode cX0_finds 87 = .ok (.goto (-33), 3) := dk_167 255 223 (dk_at dksX0_finds_3 16 rfl rfl)
theorem dX0_finds_90 : decode cX0_finds 90 = .ok (.aload_n 0, 1) := dk_42 (dk_at dksX0_finds_3 19 rfl rfl)
theorem dX0_finds_91 : decode cX0_finds 91 = .ok (.getfield 80, 3) := dk_180 0 80 (dk_at dksX0_finds_3 20 rfl rfl)
theorem dX0_finds_94 : decode cX0_finds 94 = .ok (.iconst 2, 1) := dk_5 (dk_at dksX0_finds_3 23 rfl rfl)
theorem dX0_finds_95 : decode cX0_finds 95 = .ok (.iload_n 2, 1) := dk_28 (dk_at dksX0_finds_4 0 rfl rfl)
theorem dX0_finds_96 : decode cX0_finds 96 = .ok (.imul, 1) := dk_104 (dk_at dksX0_finds_4 1 rfl rfl)
theorem dX0_finds_97 : decode cX0_finds 97 = .ok (.iaload, 1) := dk_46 (dk_at dksX0_finds_4 2 rfl rfl)
theorem dX0_finds_98 : decode cX0_finds 98 = .ok (.iconst (-1), 1) := dk_2 (dk_at dksX0_finds_4 3 rfl rfl)
theorem dX0_finds_99 : decode cX0_finds 99 = .ok (.if_icmp .eq 7, 3) := dk_159 0 7 (dk_at dksX0_finds_4 4 rfl rfl)
theorem dX0_finds_102 : decode cX0_finds 102 = .ok (.iconst 1, 1) := dk_4 (dk_at dksX0_finds_4 7 rfl rfl)
theorem dX0_finds_103 : decode cX0_finds 103 = .ok (.goto 4, 3) := dk_167 0 4 (dk_at dksX0_finds_4 8 rfl rfl)
theorem dX0_finds_106 : decode cX0_finds 106 = .ok (.iconst 0, 1) := dk_3 (dk_at dksX0_finds_4 11 rfl rfl)
theorem dX0_finds_107 : decode cX0_finds 107 = .ok (.ireturn, 1) := dk_172 (dk_at dksX0_finds_4 12 rfl rfl)
abbrev cX0_reaches : ByteArray := prog_1_method_28_code
def yX0_reaches : MethodName := ⟨RX0, "reaches", "(II)V"⟩
def dkwX0_reaches_1 : List UInt8 := [180, 0, 222, 27, 79, 42, 89, 180, 0, 222, 4, 96, 181, 0, 222, 177]
abbrev dktX0_reaches_1 : List UInt8 := dkwX0_reaches_1 ++ []
def dkwX0_reaches_0 : List UInt8 := [42, 180, 0, 80, 27, 46, 2, 159, 0, 4, 177, 42, 180, 0, 80, 27, 28, 79, 42, 180, 0, 83, 42]
abbrev dktX0_reaches_0 : List UInt8 := dkwX0_reaches_0 ++ dktX0_reaches_1
theorem dksX0_reaches_0 : cX0_reaches.data.toList.drop 0 = dktX0_reaches_0 := by decide +kernel
theorem dksX0_reaches_1 : cX0_reaches.data.toList.drop 23 = dktX0_reaches_1 := dk_seg dksX0_reaches_0 23 rfl rfl
theorem dX0_reaches_0 : decode cX0_reaches 0 = .ok (.aload_n 0, 1) := dk_42 (dk_at dksX0_reaches_0 0 rfl rfl)
theorem dX0_reaches_1 : decode cX0_reaches 1 = .ok (.getfield 80, 3) := dk_180 0 80 (dk_at dksX0_reaches_0 1 rfl rfl)
theorem dX0_reaches_4 : decode cX0_reaches 4 = .ok (.iload_n 1, 1) := dk_27 (dk_at dksX0_reaches_0 4 rfl rfl)
theorem dX0_reaches_5 : decode cX0_reaches 5 = .ok (.iaload, 1) := dk_46 (dk_at dksX0_reaches_0 5 rfl rfl)
theorem dX0_reaches_6 : decode cX0_reaches 6 = .ok (.iconst (-1), 1) := dk_2 (dk_at dksX0_reaches_0 6 rfl rfl)
theorem dX0_reaches_7 : decode cX0_reaches 7 = .ok (.if_icmp .eq 4, 3) := dk_159 0 4 (dk_at dksX0_reaches_0 7 rfl rfl)
theorem dX0_reaches_10 : decode cX0_reaches 10 = .ok (.return_, 1) := dk_177 (dk_at dksX0_reaches_0 10 rfl rfl)
theorem dX0_reaches_11 : decode cX0_reaches 11 = .ok (.aload_n 0, 1) := dk_42 (dk_at dksX0_reaches_0 11 rfl rfl)
theorem dX0_reaches_12 : decode cX0_reaches 12 = .ok (.getfield 80, 3) := dk_180 0 80 (dk_at dksX0_reaches_0 12 rfl rfl)
theorem dX0_reaches_15 : decode cX0_reaches 15 = .ok (.iload_n 1, 1) := dk_27 (dk_at dksX0_reaches_0 15 rfl rfl)
theorem dX0_reaches_16 : decode cX0_reaches 16 = .ok (.iload_n 2, 1) := dk_28 (dk_at dksX0_reaches_0 16 rfl rfl)
theorem dX0_reaches_17 : decode cX0_reaches 17 = .ok (.iastore, 1) := dk_79 (dk_at dksX0_reaches_0 17 rfl rfl)
theorem dX0_reaches_18 : decode cX0_reaches 18 = .ok (.aload_n 0, 1) := dk_42 (dk_at dksX0_reaches_0 18 rfl rfl)
theorem dX0_reaches_19 : decode cX0_reaches 19 = .ok (.getfield 83, 3) := dk_180 0 83 (dk_at dksX0_reaches_0 19 rfl rfl)
theorem dX0_reaches_22 : decode cX0_reaches 22 = .ok (.aload_n 0, 1) := dk_42 (dk_at dksX0_reaches_0 22 rfl rfl)
theorem dX0_reaches_23 : decode cX0_reaches 23 = .ok (.getfield 222, 3) := dk_180 0 222 (dk_at dksX0_reaches_1 0 rfl rfl)
theorem dX0_reaches_26 : decode cX0_reaches 26 = .ok (.iload_n 1, 1) := dk_27 (dk_at dksX0_reaches_1 3 rfl rfl)
theorem dX0_reaches_27 : decode cX0_reaches 27 = .ok (.iastore, 1) := dk_79 (dk_at dksX0_reaches_1 4 rfl rfl)
theorem dX0_reaches_28 : decode cX0_reaches 28 = .ok (.aload_n 0, 1) := dk_42 (dk_at dksX0_reaches_1 5 rfl rfl)
theorem dX0_reaches_29 : decode cX0_reaches 29 = .ok (.dup, 1) := dk_89 (dk_at dksX0_reaches_1 6 rfl rfl)
theorem dX0_reaches_30 : decode cX0_reaches 30 = .ok (.getfield 222, 3) := dk_180 0 222 (dk_at dksX0_reaches_1 7 rfl rfl)
theorem dX0_reaches_33 : decode cX0_reaches 33 = .ok (.iconst 1, 1) := dk_4 (dk_at dksX0_reaches_1 10 rfl rfl)
theorem dX0_reaches_34 : decode cX0_reaches 34 = .ok (.iadd, 1) := dk_96 (dk_at dksX0_reaches_1 11 rfl rfl)
theorem dX0_reaches_35 : decode cX0_reaches 35 = .ok (.putfield 222, 3) := dk_181 0 222 (dk_at dksX0_reaches_1 12 rfl rfl)
theorem dX0_reaches_38 : decode cX0_reaches 38 = .ok (.return_, 1) := dk_177 (dk_at dksX0_reaches_1 15 rfl rfl)
abbrev cX0_looksFrom : ByteArray := prog_1_method_29_code
def yX0_looksFrom : MethodName := ⟨RX0, "looksFrom", "(I)V"⟩
def dkwX0_looksFrom_6 : List UInt8 := [132, 4, 1, 167, 255, 162, 177]
abbrev dktX0_looksFrom_6 : List UInt8 := dkwX0_looksFrom_6 ++ []
def dkwX0_looksFrom_5 : List UInt8 := [21, 5, 50, 21, 4, 5, 96, 7, 112, 51, 153, 0, 14, 42, 5, 21, 5, 104, 4, 96, 27, 182, 0, 225]
abbrev dktX0_looksFrom_5 : List UInt8 := dkwX0_looksFrom_5 ++ dktX0_looksFrom_6
def dkwX0_looksFrom_4 : List UInt8 := [21, 4, 51, 154, 0, 12, 42, 5, 21, 5, 104, 27, 182, 0, 225, 29, 154, 0, 31, 42, 180, 0, 73]
abbrev dktX0_looksFrom_4 : List UInt8 := dkwX0_looksFrom_4 ++ dktX0_looksFrom_5
def dkwX0_looksFrom_3 : List UInt8 := [180, 0, 32, 21, 5, 46, 4, 159, 0, 6, 167, 0, 60, 29, 153, 0, 24, 42, 180, 0, 73, 28, 50]
abbrev dktX0_looksFrom_3 : List UInt8 := dkwX0_looksFrom_3 ++ dktX0_looksFrom_4
def dkwX0_looksFrom_2 : List UInt8 := [54, 4, 21, 4, 7, 162, 0, 94, 28, 21, 4, 184, 0, 206, 54, 5, 21, 5, 2, 159, 0, 74, 42]
abbrev dktX0_looksFrom_2 : List UInt8 := dkwX0_looksFrom_2 ++ dktX0_looksFrom_3
def dkwX0_looksFrom_1 : List UInt8 := [160, 0, 23, 42, 29, 153, 0, 9, 5, 28, 104, 167, 0, 8, 5, 28, 104, 4, 96, 27, 182, 0, 225, 3]
abbrev dktX0_looksFrom_1 : List UInt8 := dkwX0_looksFrom_1 ++ dktX0_looksFrom_2
def dkwX0_looksFrom_0 : List UInt8 := [27, 5, 108, 61, 27, 5, 112, 4, 160, 0, 7, 4, 167, 0, 4, 3, 62, 42, 180, 0, 76, 28, 51, 29]
abbrev dktX0_looksFrom_0 : List UInt8 := dkwX0_looksFrom_0 ++ dktX0_looksFrom_1
theorem dksX0_looksFrom_0 : cX0_looksFrom.data.toList.drop 0 = dktX0_looksFrom_0 := by decide +kernel
theorem dksX0_looksFrom_1 : cX0_looksFrom.data.toList.drop 24 = dktX0_looksFrom_1 := dk_seg dksX0_looksFrom_0 24 rfl rfl
theorem dksX0_looksFrom_2 : cX0_looksFrom.data.toList.drop 48 = dktX0_looksFrom_2 := dk_seg dksX0_looksFrom_1 24 rfl rfl
theorem dksX0_looksFrom_3 : cX0_looksFrom.data.toList.drop 71 = dktX0_looksFrom_3 := dk_seg dksX0_looksFrom_2 23 rfl rfl
theorem dksX0_looksFrom_4 : cX0_looksFrom.data.toList.drop 94 = dktX0_looksFrom_4 := dk_seg dksX0_looksFrom_3 23 rfl rfl
theorem dksX0_looksFrom_5 : cX0_looksFrom.data.toList.drop 117 = dktX0_looksFrom_5 := dk_seg dksX0_looksFrom_4 23 rfl rfl
theorem dksX0_looksFrom_6 : cX0_looksFrom.data.toList.drop 141 = dktX0_looksFrom_6 := dk_seg dksX0_looksFrom_5 24 rfl rfl
theorem dX0_looksFrom_0 : decode cX0_looksFrom 0 = .ok (.iload_n 1, 1) := dk_27 (dk_at dksX0_looksFrom_0 0 rfl rfl)
theorem dX0_looksFrom_1 : decode cX0_looksFrom 1 = .ok (.iconst 2, 1) := dk_5 (dk_at dksX0_looksFrom_0 1 rfl rfl)
theorem dX0_looksFrom_2 : decode cX0_looksFrom 2 = .ok (.idiv, 1) := dk_108 (dk_at dksX0_looksFrom_0 2 rfl rfl)
theorem dX0_looksFrom_3 : decode cX0_looksFrom 3 = .ok (.istore_n 2, 1) := dk_61 (dk_at dksX0_looksFrom_0 3 rfl rfl)
theorem dX0_looksFrom_4 : decode cX0_looksFrom 4 = .ok (.iload_n 1, 1) := dk_27 (dk_at dksX0_looksFrom_0 4 rfl rfl)
theorem dX0_looksFrom_5 : decode cX0_looksFrom 5 = .ok (.iconst 2, 1) := dk_5 (dk_at dksX0_looksFrom_0 5 rfl rfl)
theorem dX0_looksFrom_6 : decode cX0_looksFrom 6 = .ok (.irem, 1) := dk_112 (dk_at dksX0_looksFrom_0 6 rfl rfl)
theorem dX0_looksFrom_7 : decode cX0_looksFrom 7 = .ok (.iconst 1, 1) := dk_4 (dk_at dksX0_looksFrom_0 7 rfl rfl)
theorem dX0_looksFrom_8 : decode cX0_looksFrom 8 = .ok (.if_icmp .ne 7, 3) := dk_160 0 7 (dk_at dksX0_looksFrom_0 8 rfl rfl)
theorem dX0_looksFrom_11 : decode cX0_looksFrom 11 = .ok (.iconst 1, 1) := dk_4 (dk_at dksX0_looksFrom_0 11 rfl rfl)
theorem dX0_looksFrom_12 : decode cX0_looksFrom 12 = .ok (.goto 4, 3) := dk_167 0 4 (dk_at dksX0_looksFrom_0 12 rfl rfl)
theorem dX0_looksFrom_15 : decode cX0_looksFrom 15 = .ok (.iconst 0, 1) := dk_3 (dk_at dksX0_looksFrom_0 15 rfl rfl)
theorem dX0_looksFrom_16 : decode cX0_looksFrom 16 = .ok (.istore_n 3, 1) := dk_62 (dk_at dksX0_looksFrom_0 16 rfl rfl)
theorem dX0_looksFrom_17 : decode cX0_looksFrom 17 = .ok (.aload_n 0, 1) := dk_42 (dk_at dksX0_looksFrom_0 17 rfl rfl)
theorem dX0_looksFrom_18 : decode cX0_looksFrom 18 = .ok (.getfield 76, 3) := dk_180 0 76 (dk_at dksX0_looksFrom_0 18 rfl rfl)
theorem dX0_looksFrom_21 : decode cX0_looksFrom 21 = .ok (.iload_n 2, 1) := dk_28 (dk_at dksX0_looksFrom_0 21 rfl rfl)
theorem dX0_looksFrom_22 : decode cX0_looksFrom 22 = .ok (.baload, 1) := dk_51 (dk_at dksX0_looksFrom_0 22 rfl rfl)
theorem dX0_looksFrom_23 : decode cX0_looksFrom 23 = .ok (.iload_n 3, 1) := dk_29 (dk_at dksX0_looksFrom_0 23 rfl rfl)
theorem dX0_looksFrom_24 : decode cX0_looksFrom 24 = .ok (.if_icmp .ne 23, 3) := dk_160 0 23 (dk_at dksX0_looksFrom_1 0 rfl rfl)
theorem dX0_looksFrom_27 : decode cX0_looksFrom 27 = .ok (.aload_n 0, 1) := dk_42 (dk_at dksX0_looksFrom_1 3 rfl rfl)
theorem dX0_looksFrom_28 : decode cX0_looksFrom 28 = .ok (.iload_n 3, 1) := dk_29 (dk_at dksX0_looksFrom_1 4 rfl rfl)
theorem dX0_looksFrom_29 : decode cX0_looksFrom 29 = .ok (.ifCond .eq 9, 3) := dk_153 0 9 (dk_at dksX0_looksFrom_1 5 rfl rfl)
theorem dX0_looksFrom_32 : decode cX0_looksFrom 32 = .ok (.iconst 2, 1) := dk_5 (dk_at dksX0_looksFrom_1 8 rfl rfl)
theorem dX0_looksFrom_33 : decode cX0_looksFrom 33 = .ok (.iload_n 2, 1) := dk_28 (dk_at dksX0_looksFrom_1 9 rfl rfl)
theorem dX0_looksFrom_34 : decode cX0_looksFrom 34 = .ok (.imul, 1) := dk_104 (dk_at dksX0_looksFrom_1 10 rfl rfl)
theorem dX0_looksFrom_35 : decode cX0_looksFrom 35 = .ok (.goto 8, 3) := dk_167 0 8 (dk_at dksX0_looksFrom_1 11 rfl rfl)
theorem dX0_looksFrom_38 : decode cX0_looksFrom 38 = .ok (.iconst 2, 1) := dk_5 (dk_at dksX0_looksFrom_1 14 rfl rfl)
theorem dX0_looksFrom_39 : decode cX0_looksFrom 39 = .ok (.iload_n 2, 1) := dk_28 (dk_at dksX0_looksFrom_1 15 rfl rfl)
theorem dX0_looksFrom_40 : decode cX0_looksFrom 40 = .ok (.imul, 1) := dk_104 (dk_at dksX0_looksFrom_1 16 rfl rfl)
theorem dX0_looksFrom_41 : decode cX0_looksFrom 41 = .ok (.iconst 1, 1) := dk_4 (dk_at dksX0_looksFrom_1 17 rfl rfl)
theorem dX0_looksFrom_42 : decode cX0_looksFrom 42 = .ok (.iadd, 1) := dk_96 (dk_at dksX0_looksFrom_1 18 rfl rfl)
theorem dX0_looksFrom_43 : decode cX0_looksFrom 43 = .ok (.iload_n 1, 1) := dk_27 (dk_at dksX0_looksFrom_1 19 rfl rfl)
theorem dX0_looksFrom_44 : decode cX0_looksFrom 44 = .ok (.invokevirtual 225, 3) := dk_182 0 225 (dk_at dksX0_looksFrom_1 20 rfl rfl)
theorem dX0_looksFrom_47 : decode cX0_looksFrom 47 = .ok (.iconst 0, 1) := dk_3 (dk_at dksX0_looksFrom_1 23 rfl rfl)
theorem dX0_looksFrom_48 : decode cX0_looksFrom 48 = .ok (.istore 4, 2) := dk_54 4 (dk_at dksX0_looksFrom_2 0 rfl rfl)
theorem dX0_looksFrom_50 : decode cX0_looksFrom 50 = .ok (.iload 4, 2) := dk_21 4 (dk_at dksX0_looksFrom_2 2 rfl rfl)
theorem dX0_looksFrom_52 : decode cX0_looksFrom 52 = .ok (.iconst 4, 1) := dk_7 (dk_at dksX0_looksFrom_2 4 rfl rfl)
theorem dX0_looksFrom_53 : decode cX0_looksFrom 53 = .ok (.if_icmp .ge 94, 3) := dk_162 0 94 (dk_at dksX0_looksFrom_2 5 rfl rfl)
theorem dX0_looksFrom_56 : decode cX0_looksFrom 56 = .ok (.iload_n 2, 1) := dk_28 (dk_at dksX0_looksFrom_2 8 rfl rfl)
theorem dX0_looksFrom_57 : decode cX0_looksFrom 57 = .ok (.iload 4, 2) := dk_21 4 (dk_at dksX0_looksFrom_2 9 rfl rfl)
theorem dX0_looksFrom_59 : decode cX0_looksFrom 59 = .ok (.invokestatic 206, 3) := dk_184 0 206 (dk_at dksX0_looksFrom_2 11 rfl rfl)
theorem dX0_looksFrom_62 : decode cX0_looksFrom 62 = .ok (.istore 5, 2) := dk_54 5 (dk_at dksX0_looksFrom_2 14 rfl rfl)
theorem dX0_looksFrom_64 : decode cX0_looksFrom 64 = .ok (.iload 5, 2) := dk_21 5 (dk_at dksX0_looksFrom_2 16 rfl rfl)
theorem dX0_looksFrom_66 : decode cX0_looksFrom 66 = .ok (.iconst (-1), 1) := dk_2 (dk_at dksX0_looksFrom_2 18 rfl rfl)
theorem dX0_looksFrom_67 : decode cX0_looksFrom 67 = .ok (.if_icmp .eq 74, 3) := dk_159 0 74 (dk_at dksX0_looksFrom_2 19 rfl rfl)
theorem dX0_looksFrom_70 : decode cX0_looksFrom 70 = .ok (.aload_n 0, 1) := dk_42 (dk_at dksX0_looksFrom_2 22 rfl rfl)
theorem dX0_looksFrom_71 : decode cX0_looksFrom 71 = .ok (.getfield 32, 3) := dk_180 0 32 (dk_at dksX0_looksFrom_3 0 rfl rfl)
theorem dX0_looksFrom_74 : decode cX0_looksFrom 74 = .ok (.iload 5, 2) := dk_21 5 (dk_at dksX0_looksFrom_3 3 rfl rfl)
theorem dX0_looksFrom_76 : decode cX0_looksFrom 76 = .ok (.iaload, 1) := dk_46 (dk_at dksX0_looksFrom_3 5 rfl rfl)
theorem dX0_looksFrom_77 : decode cX0_looksFrom 77 = .ok (.iconst 1, 1) := dk_4 (dk_at dksX0_looksFrom_3 6 rfl rfl)
theorem dX0_looksFrom_78 : decode cX0_looksFrom 78 = .ok (.if_icmp .eq 6, 3) := dk_159 0 6 (dk_at dksX0_looksFrom_3 7 rfl rfl)
theorem dX0_looksFrom_81 : decode cX0_looksFrom 81 = .ok (.goto 60, 3) := dk_167 0 60 (dk_at dksX0_looksFrom_3 10 rfl rfl)
theorem dX0_looksFrom_84 : decode cX0_looksFrom 84 = .ok (.iload_n 3, 1) := dk_29 (dk_at dksX0_looksFrom_3 13 rfl rfl)
theorem dX0_looksFrom_85 : decode cX0_looksFrom 85 = .ok (.ifCond .eq 24, 3) := dk_153 0 24 (dk_at dksX0_looksFrom_3 14 rfl rfl)
theorem dX0_looksFrom_88 : decode cX0_looksFrom 88 = .ok (.aload_n 0, 1) := dk_42 (dk_at dksX0_looksFrom_3 17 rfl rfl)
theorem dX0_looksFrom_89 : decode cX0_looksFrom 89 = .ok (.getfield 73, 3) := dk_180 0 73 (dk_at dksX0_looksFrom_3 18 rfl rfl)
theorem dX0_looksFrom_92 : decode cX0_looksFrom 92 = .ok (.iload_n 2, 1) := dk_28 (dk_at dksX0_looksFrom_3 21 rfl rfl)
theorem dX0_looksFrom_93 : decode cX0_looksFrom 93 = .ok (.aaload, 1) := dk_50 (dk_at dksX0_looksFrom_3 22 rfl rfl)
theorem dX0_looksFrom_94 : decode cX0_looksFrom 94 = .ok (.iload 4, 2) := dk_21 4 (dk_at dksX0_looksFrom_4 0 rfl rfl)
theorem dX0_looksFrom_96 : decode cX0_looksFrom 96 = .ok (.baload, 1) := dk_51 (dk_at dksX0_looksFrom_4 2 rfl rfl)
theorem dX0_looksFrom_97 : decode cX0_looksFrom 97 = .ok (.ifCond .ne 12, 3) := dk_154 0 12 (dk_at dksX0_looksFrom_4 3 rfl rfl)
theorem dX0_looksFrom_100 : decode cX0_looksFrom 100 = .ok (.aload_n 0, 1) := dk_42 (dk_at dksX0_looksFrom_4 6 rfl rfl)
theorem dX0_looksFrom_101 : decode cX0_looksFrom 101 = .ok (.iconst 2, 1) := dk_5 (dk_at dksX0_looksFrom_4 7 rfl rfl)
theorem dX0_looksFrom_102 : decode cX0_looksFrom 102 = .ok (.iload 5, 2) := dk_21 5 (dk_at dksX0_looksFrom_4 8 rfl rfl)
theorem dX0_looksFrom_104 : decode cX0_looksFrom 104 = .ok (.imul, 1) := dk_104 (dk_at dksX0_looksFrom_4 10 rfl rfl)
theorem dX0_looksFrom_105 : decode cX0_looksFrom 105 = .ok (.iload_n 1, 1) := dk_27 (dk_at dksX0_looksFrom_4 11 rfl rfl)
theorem dX0_looksFrom_106 : decode cX0_looksFrom 106 = .ok (.invokevirtual 225, 3) := dk_182 0 225 (dk_at dksX0_looksFrom_4 12 rfl rfl)
theorem dX0_looksFrom_109 : decode cX0_looksFrom 109 = .ok (.iload_n 3, 1) := dk_29 (dk_at dksX0_looksFrom_4 15 rfl rfl)
theorem dX0_looksFrom_110 : decode cX0_looksFrom 110 = .ok (.ifCond .ne 31, 3) := dk_154 0 31 (dk_at dksX0_looksFrom_4 16 rfl rfl)
theorem dX0_looksFrom_113 : decode cX0_looksFrom 113 = .ok (.aload_n 0, 1) := dk_42 (dk_at dksX0_looksFrom_4 19 rfl rfl)
theorem dX0_looksFrom_114 : decode cX0_looksFrom 114 = .ok (.getfield 73, 3) := dk_180 0 73 (dk_at dksX0_looksFrom_4 20 rfl rfl)
theorem dX0_looksFrom_117 : decode cX0_looksFrom 117 = .ok (.iload 5, 2) := dk_21 5 (dk_at dksX0_looksFrom_5 0 rfl rfl)
theorem dX0_looksFrom_119 : decode cX0_looksFrom 119 = .ok (.aaload, 1) := dk_50 (dk_at dksX0_looksFrom_5 2 rfl rfl)
theorem dX0_looksFrom_120 : decode cX0_looksFrom 120 = .ok (.iload 4, 2) := dk_21 4 (dk_at dksX0_looksFrom_5 3 rfl rfl)
theorem dX0_looksFrom_122 : decode cX0_looksFrom 122 = .ok (.iconst 2, 1) := dk_5 (dk_at dksX0_looksFrom_5 5 rfl rfl)
theorem dX0_looksFrom_123 : decode cX0_looksFrom 123 = .ok (.iadd, 1) := dk_96 (dk_at dksX0_looksFrom_5 6 rfl rfl)
theorem dX0_looksFrom_124 : decode cX0_looksFrom 124 = .ok (.iconst 4, 1) := dk_7 (dk_at dksX0_looksFrom_5 7 rfl rfl)
theorem dX0_looksFrom_125 : decode cX0_looksFrom 125 = .ok (.irem, 1) := dk_112 (dk_at dksX0_looksFrom_5 8 rfl rfl)
theorem dX0_looksFrom_126 : decode cX0_looksFrom 126 = .ok (.baload, 1) := dk_51 (dk_at dksX0_looksFrom_5 9 rfl rfl)
theorem dX0_looksFrom_127 : decode cX0_looksFrom 127 = .ok (.ifCond .eq 14, 3) := dk_153 0 14 (dk_at dksX0_looksFrom_5 10 rfl rfl)
theorem dX0_looksFrom_130 : decode cX0_looksFrom 130 = .ok (.aload_n 0, 1) := dk_42 (dk_at dksX0_looksFrom_5 13 rfl rfl)
theorem dX0_looksFrom_131 : decode cX0_looksFrom 131 = .ok (.iconst 2, 1) := dk_5 (dk_at dksX0_looksFrom_5 14 rfl rfl)
theorem dX0_looksFrom_132 : decode cX0_looksFrom 132 = .ok (.iload 5, 2) := dk_21 5 (dk_at dksX0_looksFrom_5 15 rfl rfl)
theorem dX0_looksFrom_134 : decode cX0_looksFrom 134 = .ok (.imul, 1) := dk_104 (dk_at dksX0_looksFrom_5 17 rfl rfl)
theorem dX0_looksFrom_135 : decode cX0_looksFrom 135 = .ok (.iconst 1, 1) := dk_4 (dk_at dksX0_looksFrom_5 18 rfl rfl)
theorem dX0_looksFrom_136 : decode cX0_looksFrom 136 = .ok (.iadd, 1) := dk_96 (dk_at dksX0_looksFrom_5 19 rfl rfl)
theorem dX0_looksFrom_137 : decode cX0_looksFrom 137 = .ok (.iload_n 1, 1) := dk_27 (dk_at dksX0_looksFrom_5 20 rfl rfl)
theorem dX0_looksFrom_138 : decode cX0_looksFrom 138 = .ok (.invokevirtual 225, 3) := dk_182 0 225 (dk_at dksX0_looksFrom_5 21 rfl rfl)
theorem dX0_looksFrom_141 : decode cX0_looksFrom 141 = .ok (.iinc 4 1, 3) := dk_132 4 1 (dk_at dksX0_looksFrom_6 0 rfl rfl)
theorem dX0_looksFrom_144 : decode cX0_looksFrom 144 = .ok (.goto (-94), 3) := dk_167 255 162 (dk_at dksX0_looksFrom_6 3 rfl rfl)
theorem dX0_looksFrom_147 : decode cX0_looksFrom 147 = .ok (.return_, 1) := dk_177 (dk_at dksX0_looksFrom_6 6 rfl rfl)
abbrev cX0_turns : ByteArray := prog_1_method_32_code
def yX0_turns : MethodName := ⟨RX0, "turns", "(II)V"⟩
def dkwX0_turns_4 : List UInt8 := [182, 0, 232, 3, 84, 42, 180, 0, 80, 29, 46, 62, 167, 255, 153, 177]
abbrev dktX0_turns_4 : List UInt8 := dkwX0_turns_4 ++ []
def dkwX0_turns_3 : List UInt8 := [21, 4, 21, 5, 182, 0, 232, 4, 84, 167, 0, 20, 42, 180, 0, 73, 21, 5, 50, 42, 21, 5, 21, 4]
abbrev dktX0_turns_3 : List UInt8 := dkwX0_turns_3 ++ dktX0_turns_4
def dkwX0_turns_2 : List UInt8 := [4, 167, 0, 4, 3, 84, 167, 0, 46, 29, 5, 112, 154, 0, 23, 42, 180, 0, 73, 21, 4, 50, 42]
abbrev dktX0_turns_2 : List UInt8 := dkwX0_turns_2 ++ dktX0_turns_3
def dkwX0_turns_1 : List UInt8 := [5, 108, 54, 5, 21, 4, 21, 5, 160, 0, 25, 42, 180, 0, 76, 21, 4, 29, 5, 112, 4, 160, 0, 7]
abbrev dktX0_turns_1 : List UInt8 := dkwX0_turns_1 ++ dktX0_turns_2
def dkwX0_turns_0 : List UInt8 := [5, 28, 104, 62, 29, 5, 27, 104, 4, 96, 159, 0, 100, 42, 180, 0, 80, 29, 46, 5, 108, 54, 4, 29]
abbrev dktX0_turns_0 : List UInt8 := dkwX0_turns_0 ++ dktX0_turns_1
theorem dksX0_turns_0 : cX0_turns.data.toList.drop 0 = dktX0_turns_0 := by decide +kernel
theorem dksX0_turns_1 : cX0_turns.data.toList.drop 24 = dktX0_turns_1 := dk_seg dksX0_turns_0 24 rfl rfl
theorem dksX0_turns_2 : cX0_turns.data.toList.drop 48 = dktX0_turns_2 := dk_seg dksX0_turns_1 24 rfl rfl
theorem dksX0_turns_3 : cX0_turns.data.toList.drop 71 = dktX0_turns_3 := dk_seg dksX0_turns_2 23 rfl rfl
theorem dksX0_turns_4 : cX0_turns.data.toList.drop 95 = dktX0_turns_4 := dk_seg dksX0_turns_3 24 rfl rfl
theorem dX0_turns_0 : decode cX0_turns 0 = .ok (.iconst 2, 1) := dk_5 (dk_at dksX0_turns_0 0 rfl rfl)
theorem dX0_turns_1 : decode cX0_turns 1 = .ok (.iload_n 2, 1) := dk_28 (dk_at dksX0_turns_0 1 rfl rfl)
theorem dX0_turns_2 : decode cX0_turns 2 = .ok (.imul, 1) := dk_104 (dk_at dksX0_turns_0 2 rfl rfl)
theorem dX0_turns_3 : decode cX0_turns 3 = .ok (.istore_n 3, 1) := dk_62 (dk_at dksX0_turns_0 3 rfl rfl)
theorem dX0_turns_4 : decode cX0_turns 4 = .ok (.iload_n 3, 1) := dk_29 (dk_at dksX0_turns_0 4 rfl rfl)
theorem dX0_turns_5 : decode cX0_turns 5 = .ok (.iconst 2, 1) := dk_5 (dk_at dksX0_turns_0 5 rfl rfl)
theorem dX0_turns_6 : decode cX0_turns 6 = .ok (.iload_n 1, 1) := dk_27 (dk_at dksX0_turns_0 6 rfl rfl)
theorem dX0_turns_7 : decode cX0_turns 7 = .ok (.imul, 1) := dk_104 (dk_at dksX0_turns_0 7 rfl rfl)
theorem dX0_turns_8 : decode cX0_turns 8 = .ok (.iconst 1, 1) := dk_4 (dk_at dksX0_turns_0 8 rfl rfl)
theorem dX0_turns_9 : decode cX0_turns 9 = .ok (.iadd, 1) := dk_96 (dk_at dksX0_turns_0 9 rfl rfl)
theorem dX0_turns_10 : decode cX0_turns 10 = .ok (.if_icmp .eq 100, 3) := dk_159 0 100 (dk_at dksX0_turns_0 10 rfl rfl)
theorem dX0_turns_13 : decode cX0_turns 13 = .ok (.aload_n 0, 1) := dk_42 (dk_at dksX0_turns_0 13 rfl rfl)
theorem dX0_turns_14 : decode cX0_turns 14 = .ok (.getfield 80, 3) := dk_180 0 80 (dk_at dksX0_turns_0 14 rfl rfl)
theorem dX0_turns_17 : decode cX0_turns 17 = .ok (.iload_n 3, 1) := dk_29 (dk_at dksX0_turns_0 17 rfl rfl)
theorem dX0_turns_18 : decode cX0_turns 18 = .ok (.iaload, 1) := dk_46 (dk_at dksX0_turns_0 18 rfl rfl)
theorem dX0_turns_19 : decode cX0_turns 19 = .ok (.iconst 2, 1) := dk_5 (dk_at dksX0_turns_0 19 rfl rfl)
theorem dX0_turns_20 : decode cX0_turns 20 = .ok (.idiv, 1) := dk_108 (dk_at dksX0_turns_0 20 rfl rfl)
theorem dX0_turns_21 : decode cX0_turns 21 = .ok (.istore 4, 2) := dk_54 4 (dk_at dksX0_turns_0 21 rfl rfl)
theorem dX0_turns_23 : decode cX0_turns 23 = .ok (.iload_n 3, 1) := dk_29 (dk_at dksX0_turns_0 23 rfl rfl)
theorem dX0_turns_24 : decode cX0_turns 24 = .ok (.iconst 2, 1) := dk_5 (dk_at dksX0_turns_1 0 rfl rfl)
theorem dX0_turns_25 : decode cX0_turns 25 = .ok (.idiv, 1) := dk_108 (dk_at dksX0_turns_1 1 rfl rfl)
theorem dX0_turns_26 : decode cX0_turns 26 = .ok (.istore 5, 2) := dk_54 5 (dk_at dksX0_turns_1 2 rfl rfl)
theorem dX0_turns_28 : decode cX0_turns 28 = .ok (.iload 4, 2) := dk_21 4 (dk_at dksX0_turns_1 4 rfl rfl)
theorem dX0_turns_30 : decode cX0_turns 30 = .ok (.iload 5, 2) := dk_21 5 (dk_at dksX0_turns_1 6 rfl rfl)
theorem dX0_turns_32 : decode cX0_turns 32 = .ok (.if_icmp .ne 25, 3) := dk_160 0 25 (dk_at dksX0_turns_1 8 rfl rfl)
theorem dX0_turns_35 : decode cX0_turns 35 = .ok (.aload_n 0, 1) := dk_42 (dk_at dksX0_turns_1 11 rfl rfl)
theorem dX0_turns_36 : decode cX0_turns 36 = .ok (.getfield 76, 3) := dk_180 0 76 (dk_at dksX0_turns_1 12 rfl rfl)
theorem dX0_turns_39 : decode cX0_turns 39 = .ok (.iload 4, 2) := dk_21 4 (dk_at dksX0_turns_1 15 rfl rfl)
theorem dX0_turns_41 : decode cX0_turns 41 = .ok (.iload_n 3, 1) := dk_29 (dk_at dksX0_turns_1 17 rfl rfl)
theorem dX0_turns_42 : decode cX0_turns 42 = .ok (.iconst 2, 1) := dk_5 (dk_at dksX0_turns_1 18 rfl rfl)
theorem dX0_turns_43 : decode cX0_turns 43 = .ok (.irem, 1) := dk_112 (dk_at dksX0_turns_1 19 rfl rfl)
theorem dX0_turns_44 : decode cX0_turns 44 = .ok (.iconst 1, 1) := dk_4 (dk_at dksX0_turns_1 20 rfl rfl)
theorem dX0_turns_45 : decode cX0_turns 45 = .ok (.if_icmp .ne 7, 3) := dk_160 0 7 (dk_at dksX0_turns_1 21 rfl rfl)
theorem dX0_turns_48 : decode cX0_turns 48 = .ok (.iconst 1, 1) := dk_4 (dk_at dksX0_turns_2 0 rfl rfl)
theorem dX0_turns_49 : decode cX0_turns 49 = .ok (.goto 4, 3) := dk_167 0 4 (dk_at dksX0_turns_2 1 rfl rfl)
theorem dX0_turns_52 : decode cX0_turns 52 = .ok (.iconst 0, 1) := dk_3 (dk_at dksX0_turns_2 4 rfl rfl)
theorem dX0_turns_53 : decode cX0_turns 53 = .ok (.bastore, 1) := dk_84 (dk_at dksX0_turns_2 5 rfl rfl)
theorem dX0_turns_54 : decode cX0_turns 54 = .ok (.goto 46, 3) := dk_167 0 46 (dk_at dksX0_turns_2 6 rfl rfl)
theorem dX0_turns_57 : decode cX0_turns 57 = .ok (.iload_n 3, 1) := dk_29 (dk_at dksX0_turns_2 9 rfl rfl)
theorem dX0_turns_58 : decode cX0_turns 58 = .ok (.iconst 2, 1) := dk_5 (dk_at dksX0_turns_2 10 rfl rfl)
theorem dX0_turns_59 : decode cX0_turns 59 = .ok (.irem, 1) := dk_112 (dk_at dksX0_turns_2 11 rfl rfl)
theorem dX0_turns_60 : decode cX0_turns 60 = .ok (.ifCond .ne 23, 3) := dk_154 0 23 (dk_at dksX0_turns_2 12 rfl rfl)
theorem dX0_turns_63 : decode cX0_turns 63 = .ok (.aload_n 0, 1) := dk_42 (dk_at dksX0_turns_2 15 rfl rfl)
theorem dX0_turns_64 : decode cX0_turns 64 = .ok (.getfield 73, 3) := dk_180 0 73 (dk_at dksX0_turns_2 16 rfl rfl)
theorem dX0_turns_67 : decode cX0_turns 67 = .ok (.iload 4, 2) := dk_21 4 (dk_at dksX0_turns_2 19 rfl rfl)
theorem dX0_turns_69 : decode cX0_turns 69 = .ok (.aaload, 1) := dk_50 (dk_at dksX0_turns_2 21 rfl rfl)
theorem dX0_turns_70 : decode cX0_turns 70 = .ok (.aload_n 0, 1) := dk_42 (dk_at dksX0_turns_2 22 rfl rfl)
theorem dX0_turns_71 : decode cX0_turns 71 = .ok (.iload 4, 2) := dk_21 4 (dk_at dksX0_turns_3 0 rfl rfl)
theorem dX0_turns_73 : decode cX0_turns 73 = .ok (.iload 5, 2) := dk_21 5 (dk_at dksX0_turns_3 2 rfl rfl)
theorem dX0_turns_75 : decode cX0_turns 75 = .ok (.invokevirtual 232, 3) := dk_182 0 232 (dk_at dksX0_turns_3 4 rfl rfl)
theorem dX0_turns_78 : decode cX0_turns 78 = .ok (.iconst 1, 1) := dk_4 (dk_at dksX0_turns_3 7 rfl rfl)
theorem dX0_turns_79 : decode cX0_turns 79 = .ok (.bastore, 1) := dk_84 (dk_at dksX0_turns_3 8 rfl rfl)
theorem dX0_turns_80 : decode cX0_turns 80 = .ok (.goto 20, 3) := dk_167 0 20 (dk_at dksX0_turns_3 9 rfl rfl)
theorem dX0_turns_83 : decode cX0_turns 83 = .ok (.aload_n 0, 1) := dk_42 (dk_at dksX0_turns_3 12 rfl rfl)
theorem dX0_turns_84 : decode cX0_turns 84 = .ok (.getfield 73, 3) := dk_180 0 73 (dk_at dksX0_turns_3 13 rfl rfl)
theorem dX0_turns_87 : decode cX0_turns 87 = .ok (.iload 5, 2) := dk_21 5 (dk_at dksX0_turns_3 16 rfl rfl)
theorem dX0_turns_89 : decode cX0_turns 89 = .ok (.aaload, 1) := dk_50 (dk_at dksX0_turns_3 18 rfl rfl)
theorem dX0_turns_90 : decode cX0_turns 90 = .ok (.aload_n 0, 1) := dk_42 (dk_at dksX0_turns_3 19 rfl rfl)
theorem dX0_turns_91 : decode cX0_turns 91 = .ok (.iload 5, 2) := dk_21 5 (dk_at dksX0_turns_3 20 rfl rfl)
theorem dX0_turns_93 : decode cX0_turns 93 = .ok (.iload 4, 2) := dk_21 4 (dk_at dksX0_turns_3 22 rfl rfl)
theorem dX0_turns_95 : decode cX0_turns 95 = .ok (.invokevirtual 232, 3) := dk_182 0 232 (dk_at dksX0_turns_4 0 rfl rfl)
theorem dX0_turns_98 : decode cX0_turns 98 = .ok (.iconst 0, 1) := dk_3 (dk_at dksX0_turns_4 3 rfl rfl)
theorem dX0_turns_99 : decode cX0_turns 99 = .ok (.bastore, 1) := dk_84 (dk_at dksX0_turns_4 4 rfl rfl)
theorem dX0_turns_100 : decode cX0_turns 100 = .ok (.aload_n 0, 1) := dk_42 (dk_at dksX0_turns_4 5 rfl rfl)
theorem dX0_turns_101 : decode cX0_turns 101 = .ok (.getfield 80, 3) := dk_180 0 80 (dk_at dksX0_turns_4 6 rfl rfl)
theorem dX0_turns_104 : decode cX0_turns 104 = .ok (.iload_n 3, 1) := dk_29 (dk_at dksX0_turns_4 9 rfl rfl)
theorem dX0_turns_105 : decode cX0_turns 105 = .ok (.iaload, 1) := dk_46 (dk_at dksX0_turns_4 10 rfl rfl)
theorem dX0_turns_106 : decode cX0_turns 106 = .ok (.istore_n 3, 1) := dk_62 (dk_at dksX0_turns_4 11 rfl rfl)
theorem dX0_turns_107 : decode cX0_turns 107 = .ok (.goto (-103), 3) := dk_167 255 153 (dk_at dksX0_turns_4 12 rfl rfl)
theorem dX0_turns_110 : decode cX0_turns 110 = .ok (.return_, 1) := dk_177 (dk_at dksX0_turns_4 15 rfl rfl)
abbrev cX0_wayTo : ByteArray := prog_1_method_31_code
def yX0_wayTo : MethodName := ⟨RX0, "wayTo", "(II)I"⟩
def dkwX0_wayTo_0 : List UInt8 := [3, 62, 27, 29, 184, 0, 206, 28, 159, 0, 9, 132, 3, 1, 167, 255, 244, 29, 172]
abbrev dktX0_wayTo_0 : List UInt8 := dkwX0_wayTo_0 ++ []
theorem dksX0_wayTo_0 : cX0_wayTo.data.toList.drop 0 = dktX0_wayTo_0 := by decide +kernel
theorem dX0_wayTo_0 : decode cX0_wayTo 0 = .ok (.iconst 0, 1) := dk_3 (dk_at dksX0_wayTo_0 0 rfl rfl)
theorem dX0_wayTo_1 : decode cX0_wayTo 1 = .ok (.istore_n 3, 1) := dk_62 (dk_at dksX0_wayTo_0 1 rfl rfl)
theorem dX0_wayTo_2 : decode cX0_wayTo 2 = .ok (.iload_n 1, 1) := dk_27 (dk_at dksX0_wayTo_0 2 rfl rfl)
theorem dX0_wayTo_3 : decode cX0_wayTo 3 = .ok (.iload_n 3, 1) := dk_29 (dk_at dksX0_wayTo_0 3 rfl rfl)
theorem dX0_wayTo_4 : decode cX0_wayTo 4 = .ok (.invokestatic 206, 3) := dk_184 0 206 (dk_at dksX0_wayTo_0 4 rfl rfl)
theorem dX0_wayTo_7 : decode cX0_wayTo 7 = .ok (.iload_n 2, 1) := dk_28 (dk_at dksX0_wayTo_0 7 rfl rfl)
theorem dX0_wayTo_8 : decode cX0_wayTo 8 = .ok (.if_icmp .eq 9, 3) := dk_159 0 9 (dk_at dksX0_wayTo_0 8 rfl rfl)
theorem dX0_wayTo_11 : decode cX0_wayTo 11 = .ok (.iinc 3 1, 3) := dk_132 3 1 (dk_at dksX0_wayTo_0 11 rfl rfl)
theorem dX0_wayTo_14 : decode cX0_wayTo 14 = .ok (.goto (-12), 3) := dk_167 255 244 (dk_at dksX0_wayTo_0 14 rfl rfl)
theorem dX0_wayTo_17 : decode cX0_wayTo 17 = .ok (.iload_n 3, 1) := dk_29 (dk_at dksX0_wayTo_0 17 rfl rfl)
theorem dX0_wayTo_18 : decode cX0_wayTo 18 = .ok (.ireturn, 1) := dk_172 (dk_at dksX0_wayTo_0 18 rfl rfl)
abbrev cX0_getsOut : ByteArray := prog_1_method_35_code
def yX0_getsOut : MethodName := ⟨RX0, "getsOut", "(I)I"⟩
def dkwX0_getsOut_9 : List UInt8 := [167, 255, 161, 132, 2, 1, 167, 255, 114, 16, 254, 172]
abbrev dktX0_getsOut_9 : List UInt8 := dkwX0_getsOut_9 ++ []
def dkwX0_getsOut_8 : List UInt8 := [4, 96, 164, 0, 13, 42, 180, 0, 86, 21, 5, 28, 4, 96, 79, 132, 4, 1, 167, 255, 176, 132, 3, 1]
abbrev dktX0_getsOut_8 : List UInt8 := dkwX0_getsOut_8 ++ dktX0_getsOut_9
def dkwX0_getsOut_7 : List UInt8 := [159, 0, 39, 42, 180, 0, 86, 21, 5, 46, 28, 4, 96, 164, 0, 26, 42, 180, 0, 68, 21, 5, 46, 28]
abbrev dktX0_getsOut_7 : List UInt8 := dkwX0_getsOut_7 ++ dktX0_getsOut_8
def dkwX0_getsOut_6 : List UInt8 := [29, 21, 4, 184, 0, 206, 54, 5, 21, 5, 2, 159, 0, 50, 42, 180, 0, 32, 21, 5, 46, 6]
abbrev dktX0_getsOut_6 : List UInt8 := dkwX0_getsOut_6 ++ dktX0_getsOut_7
def dkwX0_getsOut_5 : List UInt8 := [16, 96, 162, 0, 95, 3, 54, 4, 21, 4, 7, 162, 0, 80, 42, 180, 0, 86, 29, 46, 28, 160, 0, 70]
abbrev dktX0_getsOut_5 : List UInt8 := dkwX0_getsOut_5 ++ dktX0_getsOut_6
def dkwX0_getsOut_4 : List UInt8 := [46, 28, 160, 0, 12, 29, 184, 0, 244, 153, 0, 5, 28, 172, 132, 3, 1, 167, 255, 228, 3, 62, 29]
abbrev dktX0_getsOut_4 : List UInt8 := dkwX0_getsOut_4 ++ dktX0_getsOut_5
def dkwX0_getsOut_3 : List UInt8 := [167, 255, 230, 3, 61, 28, 16, 96, 162, 0, 142, 3, 62, 29, 16, 96, 162, 0, 28, 42, 180, 0, 86, 29]
abbrev dktX0_getsOut_3 : List UInt8 := dkwX0_getsOut_3 ++ dktX0_getsOut_4
def dkwX0_getsOut_2 : List UInt8 := [162, 0, 26, 42, 180, 0, 86, 28, 28, 27, 160, 0, 7, 3, 167, 0, 5, 18, 209, 79, 132, 2, 1]
abbrev dktX0_getsOut_2 : List UInt8 := dkwX0_getsOut_2 ++ dktX0_getsOut_3
def dkwX0_getsOut_1 : List UInt8 := [180, 0, 47, 180, 0, 158, 27, 46, 4, 160, 0, 6, 16, 253, 172, 42, 182, 0, 241, 3, 61, 28, 16, 96]
abbrev dktX0_getsOut_1 : List UInt8 := dkwX0_getsOut_1 ++ dktX0_getsOut_2
def dkwX0_getsOut_0 : List UInt8 := [27, 16, 96, 184, 0, 12, 154, 0, 5, 2, 172, 42, 180, 0, 32, 27, 46, 6, 159, 0, 16, 42]
abbrev dktX0_getsOut_0 : List UInt8 := dkwX0_getsOut_0 ++ dktX0_getsOut_1
theorem dksX0_getsOut_0 : cX0_getsOut.data.toList.drop 0 = dktX0_getsOut_0 := by decide +kernel
theorem dksX0_getsOut_1 : cX0_getsOut.data.toList.drop 22 = dktX0_getsOut_1 := dk_seg dksX0_getsOut_0 22 rfl rfl
theorem dksX0_getsOut_2 : cX0_getsOut.data.toList.drop 46 = dktX0_getsOut_2 := dk_seg dksX0_getsOut_1 24 rfl rfl
theorem dksX0_getsOut_3 : cX0_getsOut.data.toList.drop 69 = dktX0_getsOut_3 := dk_seg dksX0_getsOut_2 23 rfl rfl
theorem dksX0_getsOut_4 : cX0_getsOut.data.toList.drop 93 = dktX0_getsOut_4 := dk_seg dksX0_getsOut_3 24 rfl rfl
theorem dksX0_getsOut_5 : cX0_getsOut.data.toList.drop 116 = dktX0_getsOut_5 := dk_seg dksX0_getsOut_4 23 rfl rfl
theorem dksX0_getsOut_6 : cX0_getsOut.data.toList.drop 140 = dktX0_getsOut_6 := dk_seg dksX0_getsOut_5 24 rfl rfl
theorem dksX0_getsOut_7 : cX0_getsOut.data.toList.drop 162 = dktX0_getsOut_7 := dk_seg dksX0_getsOut_6 22 rfl rfl
theorem dksX0_getsOut_8 : cX0_getsOut.data.toList.drop 186 = dktX0_getsOut_8 := dk_seg dksX0_getsOut_7 24 rfl rfl
theorem dksX0_getsOut_9 : cX0_getsOut.data.toList.drop 210 = dktX0_getsOut_9 := dk_seg dksX0_getsOut_8 24 rfl rfl
theorem dX0_getsOut_0 : decode cX0_getsOut 0 = .ok (.iload_n 1, 1) := dk_27 (dk_at dksX0_getsOut_0 0 rfl rfl)
theorem dX0_getsOut_1 : decode cX0_getsOut 1 = .ok (.bipush 96, 2) := dk_16 96 (dk_at dksX0_getsOut_0 1 rfl rfl)
theorem dX0_getsOut_3 : decode cX0_getsOut 3 = .ok (.invokestatic 12, 3) := dk_184 0 12 (dk_at dksX0_getsOut_0 3 rfl rfl)
theorem dX0_getsOut_6 : decode cX0_getsOut 6 = .ok (.ifCond .ne 5, 3) := dk_154 0 5 (dk_at dksX0_getsOut_0 6 rfl rfl)
theorem dX0_getsOut_9 : decode cX0_getsOut 9 = .ok (.iconst (-1), 1) := dk_2 (dk_at dksX0_getsOut_0 9 rfl rfl)
theorem dX0_getsOut_10 : decode cX0_getsOut 10 = .ok (.ireturn, 1) := dk_172 (dk_at dksX0_getsOut_0 10 rfl rfl)
theorem dX0_getsOut_11 : decode cX0_getsOut 11 = .ok (.aload_n 0, 1) := dk_42 (dk_at dksX0_getsOut_0 11 rfl rfl)
theorem dX0_getsOut_12 : decode cX0_getsOut 12 = .ok (.getfield 32, 3) := dk_180 0 32 (dk_at dksX0_getsOut_0 12 rfl rfl)
theorem dX0_getsOut_15 : decode cX0_getsOut 15 = .ok (.iload_n 1, 1) := dk_27 (dk_at dksX0_getsOut_0 15 rfl rfl)
theorem dX0_getsOut_16 : decode cX0_getsOut 16 = .ok (.iaload, 1) := dk_46 (dk_at dksX0_getsOut_0 16 rfl rfl)
theorem dX0_getsOut_17 : decode cX0_getsOut 17 = .ok (.iconst 3, 1) := dk_6 (dk_at dksX0_getsOut_0 17 rfl rfl)
theorem dX0_getsOut_18 : decode cX0_getsOut 18 = .ok (.if_icmp .eq 16, 3) := dk_159 0 16 (dk_at dksX0_getsOut_0 18 rfl rfl)
theorem dX0_getsOut_21 : decode cX0_getsOut 21 = .ok (.aload_n 0, 1) := dk_42 (dk_at dksX0_getsOut_0 21 rfl rfl)
theorem dX0_getsOut_22 : decode cX0_getsOut 22 = .ok (.getfield 47, 3) := dk_180 0 47 (dk_at dksX0_getsOut_1 0 rfl rfl)
theorem dX0_getsOut_25 : decode cX0_getsOut 25 = .ok (.getfield 158, 3) := dk_180 0 158 (dk_at dksX0_getsOut_1 3 rfl rfl)
theorem dX0_getsOut_28 : decode cX0_getsOut 28 = .ok (.iload_n 1, 1) := dk_27 (dk_at dksX0_getsOut_1 6 rfl rfl)
theorem dX0_getsOut_29 : decode cX0_getsOut 29 = .ok (.iaload, 1) := dk_46 (dk_at dksX0_getsOut_1 7 rfl rfl)
theorem dX0_getsOut_30 : decode cX0_getsOut 30 = .ok (.iconst 1, 1) := dk_4 (dk_at dksX0_getsOut_1 8 rfl rfl)
theorem dX0_getsOut_31 : decode cX0_getsOut 31 = .ok (.if_icmp .ne 6, 3) := dk_160 0 6 (dk_at dksX0_getsOut_1 9 rfl rfl)
theorem dX0_getsOut_34 : decode cX0_getsOut 34 = .ok (.bipush (-3), 2) := dk_16 253 (dk_at dksX0_getsOut_1 12 rfl rfl)
theorem dX0_getsOut_36 : decode cX0_getsOut 36 = .ok (.ireturn, 1) := dk_172 (dk_at dksX0_getsOut_1 14 rfl rfl)
theorem dX0_getsOut_37 : decode cX0_getsOut 37 = .ok (.aload_n 0, 1) := dk_42 (dk_at dksX0_getsOut_1 15 rfl rfl)
theorem dX0_getsOut_38 : decode cX0_getsOut 38 = .ok (.invokevirtual 241, 3) := dk_182 0 241 (dk_at dksX0_getsOut_1 16 rfl rfl)
theorem dX0_getsOut_41 : decode cX0_getsOut 41 = .ok (.iconst 0, 1) := dk_3 (dk_at dksX0_getsOut_1 19 rfl rfl)
theorem dX0_getsOut_42 : decode cX0_getsOut 42 = .ok (.istore_n 2, 1) := dk_61 (dk_at dksX0_getsOut_1 20 rfl rfl)
theorem dX0_getsOut_43 : decode cX0_getsOut 43 = .ok (.iload_n 2, 1) := dk_28 (dk_at dksX0_getsOut_1 21 rfl rfl)
theorem dX0_getsOut_44 : decode cX0_getsOut 44 = .ok (.bipush 96, 2) := dk_16 96 (dk_at dksX0_getsOut_1 22 rfl rfl)
theorem dX0_getsOut_46 : decode cX0_getsOut 46 = .ok (.if_icmp .ge 26, 3) := dk_162 0 26 (dk_at dksX0_getsOut_2 0 rfl rfl)
theorem dX0_getsOut_49 : decode cX0_getsOut 49 = .ok (.aload_n 0, 1) := dk_42 (dk_at dksX0_getsOut_2 3 rfl rfl)
theorem dX0_getsOut_50 : decode cX0_getsOut 50 = .ok (.getfield 86, 3) := dk_180 0 86 (dk_at dksX0_getsOut_2 4 rfl rfl)
theorem dX0_getsOut_53 : decode cX0_getsOut 53 = .ok (.iload_n 2, 1) := dk_28 (dk_at dksX0_getsOut_2 7 rfl rfl)
theorem dX0_getsOut_54 : decode cX0_getsOut 54 = .ok (.iload_n 2, 1) := dk_28 (dk_at dksX0_getsOut_2 8 rfl rfl)
theorem dX0_getsOut_55 : decode cX0_getsOut 55 = .ok (.iload_n 1, 1) := dk_27 (dk_at dksX0_getsOut_2 9 rfl rfl)
theorem dX0_getsOut_56 : decode cX0_getsOut 56 = .ok (.if_icmp .ne 7, 3) := dk_160 0 7 (dk_at dksX0_getsOut_2 10 rfl rfl)
theorem dX0_getsOut_59 : decode cX0_getsOut 59 = .ok (.iconst 0, 1) := dk_3 (dk_at dksX0_getsOut_2 13 rfl rfl)
theorem dX0_getsOut_60 : decode cX0_getsOut 60 = .ok (.goto 5, 3) := dk_167 0 5 (dk_at dksX0_getsOut_2 14 rfl rfl)
theorem dX0_getsOut_63 : decode cX0_getsOut 63 = .ok (.ldc 209, 2) := dk_18 209 (dk_at dksX0_getsOut_2 17 rfl rfl)
theorem dX0_getsOut_65 : decode cX0_getsOut 65 = .ok (.iastore, 1) := dk_79 (dk_at dksX0_getsOut_2 19 rfl rfl)
theorem dX0_getsOut_66 : decode cX0_getsOut 66 = .ok (.iinc 2 1, 3) := dk_132 2 1 (dk_at dksX0_getsOut_2 20 rfl rfl)
theorem dX0_getsOut_69 : decode cX0_getsOut 69 = .ok (.goto (-26), 3) := dk_167 255 230 (dk_at dksX0_getsOut_3 0 rfl rfl)
theorem dX0_getsOut_72 : decode cX0_getsOut 72 = .ok (.iconst 0, 1) := dk_3 (dk_at dksX0_getsOut_3 3 rfl rfl)
theorem dX0_getsOut_73 : decode cX0_getsOut 73 = .ok (.istore_n 2, 1) := dk_61 (dk_at dksX0_getsOut_3 4 rfl rfl)
theorem dX0_getsOut_74 : decode cX0_getsOut 74 = .ok (.iload_n 2, 1) := dk_28 (dk_at dksX0_getsOut_3 5 rfl rfl)
theorem dX0_getsOut_75 : decode cX0_getsOut 75 = .ok (.bipush 96, 2) := dk_16 96 (dk_at dksX0_getsOut_3 6 rfl rfl)
theorem dX0_getsOut_77 : decode cX0_getsOut 77 = .ok (.if_icmp .ge 142, 3) := dk_162 0 142 (dk_at dksX0_getsOut_3 8 rfl rfl)
theorem dX0_getsOut_80 : decode cX0_getsOut 80 = .ok (.iconst 0, 1) := dk_3 (dk_at dksX0_getsOut_3 11 rfl rfl)
theorem dX0_getsOut_81 : decode cX0_getsOut 81 = .ok (.istore_n 3, 1) := dk_62 (dk_at dksX0_getsOut_3 12 rfl rfl)
theorem dX0_getsOut_82 : decode cX0_getsOut 82 = .ok (.iload_n 3, 1) := dk_29 (dk_at dksX0_getsOut_3 13 rfl rfl)
theorem dX0_getsOut_83 : decode cX0_getsOut 83 = .ok (.bipush 96, 2) := dk_16 96 (dk_at dksX0_getsOut_3 14 rfl rfl)
theorem dX0_getsOut_85 : decode cX0_getsOut 85 = .ok (.if_icmp .ge 28, 3) := dk_162 0 28 (dk_at dksX0_getsOut_3 16 rfl rfl)
theorem dX0_getsOut_88 : decode cX0_getsOut 88 = .ok (.aload_n 0, 1) := dk_42 (dk_at dksX0_getsOut_3 19 rfl rfl)
theorem dX0_getsOut_89 : decode cX0_getsOut 89 = .ok (.getfield 86, 3) := dk_180 0 86 (dk_at dksX0_getsOut_3 20 rfl rfl)
theorem dX0_getsOut_92 : decode cX0_getsOut 92 = .ok (.iload_n 3, 1) := dk_29 (dk_at dksX0_getsOut_3 23 rfl rfl)
theorem dX0_getsOut_93 : decode cX0_getsOut 93 = .ok (.iaload, 1) := dk_46 (dk_at dksX0_getsOut_4 0 rfl rfl)
theorem dX0_getsOut_94 : decode cX0_getsOut 94 = .ok (.iload_n 2, 1) := dk_28 (dk_at dksX0_getsOut_4 1 rfl rfl)
theorem dX0_getsOut_95 : decode cX0_getsOut 95 = .ok (.if_icmp .ne 12, 3) := dk_160 0 12 (dk_at dksX0_getsOut_4 2 rfl rfl)
theorem dX0_getsOut_98 : decode cX0_getsOut 98 = .ok (.iload_n 3, 1) := dk_29 (dk_at dksX0_getsOut_4 5 rfl rfl)
theorem dX0_getsOut_99 : decode cX0_getsOut 99 = .ok (.invokestatic 244, 3) := dk_184 0 244 (dk_at dksX0_getsOut_4 6 rfl rfl)
theorem dX0_getsOut_102 : decode cX0_getsOut 102 = .ok (.ifCond .eq 5, 3) := dk_153 0 5 (dk_at dksX0_getsOut_4 9 rfl rfl)
theorem dX0_getsOut_105 : decode cX0_getsOut 105 = .ok (.iload_n 2, 1) := dk_28 (dk_at dksX0_getsOut_4 12 rfl rfl)
theorem dX0_getsOut_106 : decode cX0_getsOut 106 = .ok (.ireturn, 1) := dk_172 (dk_at dksX0_getsOut_4 13 rfl rfl)
theorem dX0_getsOut_107 : decode cX0_getsOut 107 = .ok (.iinc 3 1, 3) := dk_132 3 1 (dk_at dksX0_getsOut_4 14 rfl rfl)
theorem dX0_getsOut_110 : decode cX0_getsOut 110 = .ok (.goto (-28), 3) := dk_167 255 228 (dk_at dksX0_getsOut_4 17 rfl rfl)
theorem dX0_getsOut_113 : decode cX0_getsOut 113 = .ok (.iconst 0, 1) := dk_3 (dk_at dksX0_getsOut_4 20 rfl rfl)
theorem dX0_getsOut_114 : decode cX0_getsOut 114 = .ok (.istore_n 3, 1) := dk_62 (dk_at dksX0_getsOut_4 21 rfl rfl)
theorem dX0_getsOut_115 : decode cX0_getsOut 115 = .ok (.iload_n 3, 1) := dk_29 (dk_at dksX0_getsOut_4 22 rfl rfl)
theorem dX0_getsOut_116 : decode cX0_getsOut 116 = .ok (.bipush 96, 2) := dk_16 96 (dk_at dksX0_getsOut_5 0 rfl rfl)
theorem dX0_getsOut_118 : decode cX0_getsOut 118 = .ok (.if_icmp .ge 95, 3) := dk_162 0 95 (dk_at dksX0_getsOut_5 2 rfl rfl)
theorem dX0_getsOut_121 : decode cX0_getsOut 121 = .ok (.iconst 0, 1) := dk_3 (dk_at dksX0_getsOut_5 5 rfl rfl)
theorem dX0_getsOut_122 : decode cX0_getsOut 122 = .ok (.istore 4, 2) := dk_54 4 (dk_at dksX0_getsOut_5 6 rfl rfl)
theorem dX0_getsOut_124 : decode cX0_getsOut 124 = .ok (.iload 4, 2) := dk_21 4 (dk_at dksX0_getsOut_5 8 rfl rfl)
theorem dX0_getsOut_126 : decode cX0_getsOut 126 = .ok (.iconst 4, 1) := dk_7 (dk_at dksX0_getsOut_5 10 rfl rfl)
theorem dX0_getsOut_127 : decode cX0_getsOut 127 = .ok (.if_icmp .ge 80, 3) := dk_162 0 80 (dk_at dksX0_getsOut_5 11 rfl rfl)
theorem dX0_getsOut_130 : decode cX0_getsOut 130 = .ok (.aload_n 0, 1) := dk_42 (dk_at dksX0_getsOut_5 14 rfl rfl)
theorem dX0_getsOut_131 : decode cX0_getsOut 131 = .ok (.getfield 86, 3) := dk_180 0 86 (dk_at dksX0_getsOut_5 15 rfl rfl)
theorem dX0_getsOut_134 : decode cX0_getsOut 134 = .ok (.iload_n 3, 1) := dk_29 (dk_at dksX0_getsOut_5 18 rfl rfl)
theorem dX0_getsOut_135 : decode cX0_getsOut 135 = .ok (.iaload, 1) := dk_46 (dk_at dksX0_getsOut_5 19 rfl rfl)
theorem dX0_getsOut_136 : decode cX0_getsOut 136 = .ok (.iload_n 2, 1) := dk_28 (dk_at dksX0_getsOut_5 20 rfl rfl)
theorem dX0_getsOut_137 : decode cX0_getsOut 137 = .ok (.if_icmp .ne 70, 3) := dk_160 0 70 (dk_at dksX0_getsOut_5 21 rfl rfl)
theorem dX0_getsOut_140 : decode cX0_getsOut 140 = .ok (.iload_n 3, 1) := dk_29 (dk_at dksX0_getsOut_6 0 rfl rfl)
theorem dX0_getsOut_141 : decode cX0_getsOut 141 = .ok (.iload 4, 2) := dk_21 4 (dk_at dksX0_getsOut_6 1 rfl rfl)
theorem dX0_getsOut_143 : decode cX0_getsOut 143 = .ok (.invokestatic 206, 3) := dk_184 0 206 (dk_at dksX0_getsOut_6 3 rfl rfl)
theorem dX0_getsOut_146 : decode cX0_getsOut 146 = .ok (.istore 5, 2) := dk_54 5 (dk_at dksX0_getsOut_6 6 rfl rfl)
theorem dX0_getsOut_148 : decode cX0_getsOut 148 = .ok (.iload 5, 2) := dk_21 5 (dk_at dksX0_getsOut_6 8 rfl rfl)
theorem dX0_getsOut_150 : decode cX0_getsOut 150 = .ok (.iconst (-1), 1) := dk_2 (dk_at dksX0_getsOut_6 10 rfl rfl)
theorem dX0_getsOut_151 : decode cX0_getsOut 151 = .ok (.if_icmp .eq 50, 3) := dk_159 0 50 (dk_at dksX0_getsOut_6 11 rfl rfl)
theorem dX0_getsOut_154 : decode cX0_getsOut 154 = .ok (.aload_n 0, 1) := dk_42 (dk_at dksX0_getsOut_6 14 rfl rfl)
theorem dX0_getsOut_155 : decode cX0_getsOut 155 = .ok (.getfield 32, 3) := dk_180 0 32 (dk_at dksX0_getsOut_6 15 rfl rfl)
theorem dX0_getsOut_158 : decode cX0_getsOut 158 = .ok (.iload 5, 2) := dk_21 5 (dk_at dksX0_getsOut_6 18 rfl rfl)
theorem dX0_getsOut_160 : decode cX0_getsOut 160 = .ok (.iaload, 1) := dk_46 (dk_at dksX0_getsOut_6 20 rfl rfl)
theorem dX0_getsOut_161 : decode cX0_getsOut 161 = .ok (.iconst 3, 1) := dk_6 (dk_at dksX0_getsOut_6 21 rfl rfl)
theorem dX0_getsOut_162 : decode cX0_getsOut 162 = .ok (.if_icmp .eq 39, 3) := dk_159 0 39 (dk_at dksX0_getsOut_7 0 rfl rfl)
theorem dX0_getsOut_165 : decode cX0_getsOut 165 = .ok (.aload_n 0, 1) := dk_42 (dk_at dksX0_getsOut_7 3 rfl rfl)
theorem dX0_getsOut_166 : decode cX0_getsOut 166 = .ok (.getfield 86, 3) := dk_180 0 86 (dk_at dksX0_getsOut_7 4 rfl rfl)
theorem dX0_getsOut_169 : decode cX0_getsOut 169 = .ok (.iload 5, 2) := dk_21 5 (dk_at dksX0_getsOut_7 7 rfl rfl)
theorem dX0_getsOut_171 : decode cX0_getsOut 171 = .ok (.iaload, 1) := dk_46 (dk_at dksX0_getsOut_7 9 rfl rfl)
theorem dX0_getsOut_172 : decode cX0_getsOut 172 = .ok (.iload_n 2, 1) := dk_28 (dk_at dksX0_getsOut_7 10 rfl rfl)
theorem dX0_getsOut_173 : decode cX0_getsOut 173 = .ok (.iconst 1, 1) := dk_4 (dk_at dksX0_getsOut_7 11 rfl rfl)
theorem dX0_getsOut_174 : decode cX0_getsOut 174 = .ok (.iadd, 1) := dk_96 (dk_at dksX0_getsOut_7 12 rfl rfl)
theorem dX0_getsOut_175 : decode cX0_getsOut 175 = .ok (.if_icmp .le 26, 3) := dk_164 0 26 (dk_at dksX0_getsOut_7 13 rfl rfl)
theorem dX0_getsOut_178 : decode cX0_getsOut 178 = .ok (.aload_n 0, 1) := dk_42 (dk_at dksX0_getsOut_7 16 rfl rfl)
theorem dX0_getsOut_179 : decode cX0_getsOut 179 = .ok (.getfield 68, 3) := dk_180 0 68 (dk_at dksX0_getsOut_7 17 rfl rfl)
theorem dX0_getsOut_182 : decode cX0_getsOut 182 = .ok (.iload 5, 2) := dk_21 5 (dk_at dksX0_getsOut_7 20 rfl rfl)
theorem dX0_getsOut_184 : decode cX0_getsOut 184 = .ok (.iaload, 1) := dk_46 (dk_at dksX0_getsOut_7 22 rfl rfl)
theorem dX0_getsOut_185 : decode cX0_getsOut 185 = .ok (.iload_n 2, 1) := dk_28 (dk_at dksX0_getsOut_7 23 rfl rfl)
theorem dX0_getsOut_186 : decode cX0_getsOut 186 = .ok (.iconst 1, 1) := dk_4 (dk_at dksX0_getsOut_8 0 rfl rfl)
theorem dX0_getsOut_187 : decode cX0_getsOut 187 = .ok (.iadd, 1) := dk_96 (dk_at dksX0_getsOut_8 1 rfl rfl)
theorem dX0_getsOut_188 : decode cX0_getsOut 188 = .ok (.if_icmp .le 13, 3) := dk_164 0 13 (dk_at dksX0_getsOut_8 2 rfl rfl)
theorem dX0_getsOut_191 : decode cX0_getsOut 191 = .ok (.aload_n 0, 1) := dk_42 (dk_at dksX0_getsOut_8 5 rfl rfl)
theorem dX0_getsOut_192 : decode cX0_getsOut 192 = .ok (.getfield 86, 3) := dk_180 0 86 (dk_at dksX0_getsOut_8 6 rfl rfl)
theorem dX0_getsOut_195 : decode cX0_getsOut 195 = .ok (.iload 5, 2) := dk_21 5 (dk_at dksX0_getsOut_8 9 rfl rfl)
theorem dX0_getsOut_197 : decode cX0_getsOut 197 = .ok (.iload_n 2, 1) := dk_28 (dk_at dksX0_getsOut_8 11 rfl rfl)
theorem dX0_getsOut_198 : decode cX0_getsOut 198 = .ok (.iconst 1, 1) := dk_4 (dk_at dksX0_getsOut_8 12 rfl rfl)
theorem dX0_getsOut_199 : decode cX0_getsOut 199 = .ok (.iadd, 1) := dk_96 (dk_at dksX0_getsOut_8 13 rfl rfl)
theorem dX0_getsOut_200 : decode cX0_getsOut 200 = .ok (.iastore, 1) := dk_79 (dk_at dksX0_getsOut_8 14 rfl rfl)
theorem dX0_getsOut_201 : decode cX0_getsOut 201 = .ok (.iinc 4 1, 3) := dk_132 4 1 (dk_at dksX0_getsOut_8 15 rfl rfl)
theorem dX0_getsOut_204 : decode cX0_getsOut 204 = .ok (.goto (-80), 3) := dk_167 255 176 (dk_at dksX0_getsOut_8 18 rfl rfl)
theorem dX0_getsOut_207 : decode cX0_getsOut 207 = .ok (.iinc 3 1, 3) := dk_132 3 1 (dk_at dksX0_getsOut_8 21 rfl rfl)
theorem dX0_getsOut_210 : decode cX0_getsOut 210 = .ok (.goto (-95), 3) := dk_167 255 161 (dk_at dksX0_getsOut_9 0 rfl rfl)
theorem dX0_getsOut_213 : decode cX0_getsOut 213 = .ok (.iinc 2 1, 3) := dk_132 2 1 (dk_at dksX0_getsOut_9 3 rfl rfl)
theorem dX0_getsOut_216 : decode cX0_getsOut 216 = .ok (.goto (-142), 3) := dk_167 255 114 (dk_at dksX0_getsOut_9 6 rfl rfl)
theorem dX0_getsOut_219 : decode cX0_getsOut 219 = .ok (.bipush (-2), 2) := dk_16 254 (dk_at dksX0_getsOut_9 9 rfl rfl)
theorem dX0_getsOut_221 : decode cX0_getsOut 221 = .ok (.ireturn, 1) := dk_172 (dk_at dksX0_getsOut_9 11 rfl rfl)
abbrev cX0_laysFromBurning : ByteArray := prog_1_method_24_code
def yX0_laysFromBurning : MethodName := ⟨RX0, "laysFromBurning", "()V"⟩
def dkwX0_laysFromBurning_1 : List UInt8 := [160, 0, 7, 3, 167, 0, 5, 18, 209, 79, 132, 1, 1, 167, 255, 222, 42, 182, 0, 210, 177]
abbrev dktX0_laysFromBurning_1 : List UInt8 := dkwX0_laysFromBurning_1 ++ []
def dkwX0_laysFromBurning_0 : List UInt8 := [3, 60, 27, 16, 96, 162, 0, 34, 42, 180, 0, 68, 27, 42, 180, 0, 47, 180, 0, 158, 27, 46, 4]
abbrev dktX0_laysFromBurning_0 : List UInt8 := dkwX0_laysFromBurning_0 ++ dktX0_laysFromBurning_1
theorem dksX0_laysFromBurning_0 : cX0_laysFromBurning.data.toList.drop 0 = dktX0_laysFromBurning_0 := by decide +kernel
theorem dksX0_laysFromBurning_1 : cX0_laysFromBurning.data.toList.drop 23 = dktX0_laysFromBurning_1 := dk_seg dksX0_laysFromBurning_0 23 rfl rfl
theorem dX0_laysFromBurning_0 : decode cX0_laysFromBurning 0 = .ok (.iconst 0, 1) := dk_3 (dk_at dksX0_laysFromBurning_0 0 rfl rfl)
theorem dX0_laysFromBurning_1 : decode cX0_laysFromBurning 1 = .ok (.istore_n 1, 1) := dk_60 (dk_at dksX0_laysFromBurning_0 1 rfl rfl)
theorem dX0_laysFromBurning_2 : decode cX0_laysFromBurning 2 = .ok (.iload_n 1, 1) := dk_27 (dk_at dksX0_laysFromBurning_0 2 rfl rfl)
theorem dX0_laysFromBurning_3 : decode cX0_laysFromBurning 3 = .ok (.bipush 96, 2) := dk_16 96 (dk_at dksX0_laysFromBurning_0 3 rfl rfl)
theorem dX0_laysFromBurning_5 : decode cX0_laysFromBurning 5 = .ok (.if_icmp .ge 34, 3) := dk_162 0 34 (dk_at dksX0_laysFromBurning_0 5 rfl rfl)
theorem dX0_laysFromBurning_8 : decode cX0_laysFromBurning 8 = .ok (.aload_n 0, 1) := dk_42 (dk_at dksX0_laysFromBurning_0 8 rfl rfl)
theorem dX0_laysFromBurning_9 : decode cX0_laysFromBurning 9 = .ok (.getfield 68, 3) := dk_180 0 68 (dk_at dksX0_laysFromBurning_0 9 rfl rfl)
theorem dX0_laysFromBurning_12 : decode cX0_laysFromBurning 12 = .ok (.iload_n 1, 1) := dk_27 (dk_at dksX0_laysFromBurning_0 12 rfl rfl)
theorem dX0_laysFromBurning_13 : decode cX0_laysFromBurning 13 = .ok (.aload_n 0, 1) := dk_42 (dk_at dksX0_laysFromBurning_0 13 rfl rfl)
theorem dX0_laysFromBurning_14 : decode cX0_laysFromBurning 14 = .ok (.getfield 47, 3) := dk_180 0 47 (dk_at dksX0_laysFromBurning_0 14 rfl rfl)
theorem dX0_laysFromBurning_17 : decode cX0_laysFromBurning 17 = .ok (.getfield 158, 3) := dk_180 0 158 (dk_at dksX0_laysFromBurning_0 17 rfl rfl)
theorem dX0_laysFromBurning_20 : decode cX0_laysFromBurning 20 = .ok (.iload_n 1, 1) := dk_27 (dk_at dksX0_laysFromBurning_0 20 rfl rfl)
theorem dX0_laysFromBurning_21 : decode cX0_laysFromBurning 21 = .ok (.iaload, 1) := dk_46 (dk_at dksX0_laysFromBurning_0 21 rfl rfl)
theorem dX0_laysFromBurning_22 : decode cX0_laysFromBurning 22 = .ok (.iconst 1, 1) := dk_4 (dk_at dksX0_laysFromBurning_0 22 rfl rfl)
theorem dX0_laysFromBurning_23 : decode cX0_laysFromBurning 23 = .ok (.if_icmp .ne 7, 3) := dk_160 0 7 (dk_at dksX0_laysFromBurning_1 0 rfl rfl)
theorem dX0_laysFromBurning_26 : decode cX0_laysFromBurning 26 = .ok (.iconst 0, 1) := dk_3 (dk_at dksX0_laysFromBurning_1 3 rfl rfl)
theorem dX0_laysFromBurning_27 : decode cX0_laysFromBurning 27 = .ok (.goto 5, 3) := dk_167 0 5 (dk_at dksX0_laysFromBurning_1 4 rfl rfl)
theorem dX0_laysFromBurning_30 : decode cX0_laysFromBurning 30 = .ok (.ldc 209, 2) := dk_18 209 (dk_at dksX0_laysFromBurning_1 7 rfl rfl)
theorem dX0_laysFromBurning_32 : decode cX0_laysFromBurning 32 = .ok (.iastore, 1) := dk_79 (dk_at dksX0_laysFromBurning_1 9 rfl rfl)
theorem dX0_laysFromBurning_33 : decode cX0_laysFromBurning 33 = .ok (.iinc 1 1, 3) := dk_132 1 1 (dk_at dksX0_laysFromBurning_1 10 rfl rfl)
theorem dX0_laysFromBurning_36 : decode cX0_laysFromBurning 36 = .ok (.goto (-34), 3) := dk_167 255 222 (dk_at dksX0_laysFromBurning_1 13 rfl rfl)
theorem dX0_laysFromBurning_39 : decode cX0_laysFromBurning 39 = .ok (.aload_n 0, 1) := dk_42 (dk_at dksX0_laysFromBurning_1 16 rfl rfl)
theorem dX0_laysFromBurning_40 : decode cX0_laysFromBurning 40 = .ok (.invokevirtual 210, 3) := dk_182 0 210 (dk_at dksX0_laysFromBurning_1 17 rfl rfl)
theorem dX0_laysFromBurning_43 : decode cX0_laysFromBurning 43 = .ok (.return_, 1) := dk_177 (dk_at dksX0_laysFromBurning_1 20 rfl rfl)
abbrev cX0_isEdge : ByteArray := prog_1_method_34_code
def yX0_isEdge : MethodName := ⟨RX0, "isEdge", "(I)Z"⟩
def dkwX0_isEdge_1 : List UInt8 := [16, 12, 108, 16, 7, 160, 0, 7, 4, 167, 0, 4, 3, 172]
abbrev dktX0_isEdge_1 : List UInt8 := dkwX0_isEdge_1 ++ []
def dkwX0_isEdge_0 : List UInt8 := [26, 16, 12, 112, 153, 0, 28, 26, 16, 12, 112, 16, 11, 159, 0, 19, 26, 16, 12, 108, 153, 0, 12, 26]
abbrev dktX0_isEdge_0 : List UInt8 := dkwX0_isEdge_0 ++ dktX0_isEdge_1
theorem dksX0_isEdge_0 : cX0_isEdge.data.toList.drop 0 = dktX0_isEdge_0 := by decide +kernel
theorem dksX0_isEdge_1 : cX0_isEdge.data.toList.drop 24 = dktX0_isEdge_1 := dk_seg dksX0_isEdge_0 24 rfl rfl
theorem dX0_isEdge_0 : decode cX0_isEdge 0 = .ok (.iload_n 0, 1) := dk_26 (dk_at dksX0_isEdge_0 0 rfl rfl)
theorem dX0_isEdge_1 : decode cX0_isEdge 1 = .ok (.bipush 12, 2) := dk_16 12 (dk_at dksX0_isEdge_0 1 rfl rfl)
theorem dX0_isEdge_3 : decode cX0_isEdge 3 = .ok (.irem, 1) := dk_112 (dk_at dksX0_isEdge_0 3 rfl rfl)
theorem dX0_isEdge_4 : decode cX0_isEdge 4 = .ok (.ifCond .eq 28, 3) := dk_153 0 28 (dk_at dksX0_isEdge_0 4 rfl rfl)
theorem dX0_isEdge_7 : decode cX0_isEdge 7 = .ok (.iload_n 0, 1) := dk_26 (dk_at dksX0_isEdge_0 7 rfl rfl)
theorem dX0_isEdge_8 : decode cX0_isEdge 8 = .ok (.bipush 12, 2) := dk_16 12 (dk_at dksX0_isEdge_0 8 rfl rfl)
theorem dX0_isEdge_10 : decode cX0_isEdge 10 = .ok (.irem, 1) := dk_112 (dk_at dksX0_isEdge_0 10 rfl rfl)
theorem dX0_isEdge_11 : decode cX0_isEdge 11 = .ok (.bipush 11, 2) := dk_16 11 (dk_at dksX0_isEdge_0 11 rfl rfl)
theorem dX0_isEdge_13 : decode cX0_isEdge 13 = .ok (.if_icmp .eq 19, 3) := dk_159 0 19 (dk_at dksX0_isEdge_0 13 rfl rfl)
theorem dX0_isEdge_16 : decode cX0_isEdge 16 = .ok (.iload_n 0, 1) := dk_26 (dk_at dksX0_isEdge_0 16 rfl rfl)
theorem dX0_isEdge_17 : decode cX0_isEdge 17 = .ok (.bipush 12, 2) := dk_16 12 (dk_at dksX0_isEdge_0 17 rfl rfl)
theorem dX0_isEdge_19 : decode cX0_isEdge 19 = .ok (.idiv, 1) := dk_108 (dk_at dksX0_isEdge_0 19 rfl rfl)
theorem dX0_isEdge_20 : decode cX0_isEdge 20 = .ok (.ifCond .eq 12, 3) := dk_153 0 12 (dk_at dksX0_isEdge_0 20 rfl rfl)
theorem dX0_isEdge_23 : decode cX0_isEdge 23 = .ok (.iload_n 0, 1) := dk_26 (dk_at dksX0_isEdge_0 23 rfl rfl)
theorem dX0_isEdge_24 : decode cX0_isEdge 24 = .ok (.bipush 12, 2) := dk_16 12 (dk_at dksX0_isEdge_1 0 rfl rfl)
theorem dX0_isEdge_26 : decode cX0_isEdge 26 = .ok (.idiv, 1) := dk_108 (dk_at dksX0_isEdge_1 2 rfl rfl)
theorem dX0_isEdge_27 : decode cX0_isEdge 27 = .ok (.bipush 7, 2) := dk_16 7 (dk_at dksX0_isEdge_1 3 rfl rfl)
theorem dX0_isEdge_29 : decode cX0_isEdge 29 = .ok (.if_icmp .ne 7, 3) := dk_160 0 7 (dk_at dksX0_isEdge_1 5 rfl rfl)
theorem dX0_isEdge_32 : decode cX0_isEdge 32 = .ok (.iconst 1, 1) := dk_4 (dk_at dksX0_isEdge_1 8 rfl rfl)
theorem dX0_isEdge_33 : decode cX0_isEdge 33 = .ok (.goto 4, 3) := dk_167 0 4 (dk_at dksX0_isEdge_1 9 rfl rfl)
theorem dX0_isEdge_36 : decode cX0_isEdge 36 = .ok (.iconst 0, 1) := dk_3 (dk_at dksX0_isEdge_1 12 rfl rfl)
theorem dX0_isEdge_37 : decode cX0_isEdge 37 = .ok (.ireturn, 1) := dk_172 (dk_at dksX0_isEdge_1 13 rfl rfl)
abbrev cX0_safe : ByteArray := prog_1_method_36_code
def yX0_safe : MethodName := ⟨RX0, "safe", "(I)I"⟩
def dkwX0_safe_3 : List UInt8 := [132, 4, 1, 167, 255, 204, 27, 154, 0, 7, 28, 167, 0, 4, 29, 172]
abbrev dktX0_safe_3 : List UInt8 := dkwX0_safe_3 ++ []
def dkwX0_safe_2 : List UInt8 := [18, 209, 162, 0, 6, 167, 0, 19, 132, 2, 1, 29, 16, 254, 160, 0, 8, 21, 4, 167, 0, 4, 29, 62]
abbrev dktX0_safe_2 : List UInt8 := dkwX0_safe_2 ++ dktX0_safe_3
def dkwX0_safe_1 : List UInt8 := [16, 96, 162, 0, 51, 42, 180, 0, 32, 21, 4, 46, 4, 160, 0, 34, 42, 180, 0, 68, 21, 4, 46]
abbrev dktX0_safe_1 : List UInt8 := dkwX0_safe_1 ++ dktX0_safe_2
def dkwX0_safe_0 : List UInt8 := [27, 5, 184, 0, 12, 154, 0, 5, 2, 172, 42, 182, 0, 241, 3, 61, 16, 254, 62, 3, 54, 4, 21, 4]
abbrev dktX0_safe_0 : List UInt8 := dkwX0_safe_0 ++ dktX0_safe_1
theorem dksX0_safe_0 : cX0_safe.data.toList.drop 0 = dktX0_safe_0 := by decide +kernel
theorem dksX0_safe_1 : cX0_safe.data.toList.drop 24 = dktX0_safe_1 := dk_seg dksX0_safe_0 24 rfl rfl
theorem dksX0_safe_2 : cX0_safe.data.toList.drop 47 = dktX0_safe_2 := dk_seg dksX0_safe_1 23 rfl rfl
theorem dksX0_safe_3 : cX0_safe.data.toList.drop 71 = dktX0_safe_3 := dk_seg dksX0_safe_2 24 rfl rfl
theorem dX0_safe_0 : decode cX0_safe 0 = .ok (.iload_n 1, 1) := dk_27 (dk_at dksX0_safe_0 0 rfl rfl)
theorem dX0_safe_1 : decode cX0_safe 1 = .ok (.iconst 2, 1) := dk_5 (dk_at dksX0_safe_0 1 rfl rfl)
theorem dX0_safe_2 : decode cX0_safe 2 = .ok (.invokestatic 12, 3) := dk_184 0 12 (dk_at dksX0_safe_0 2 rfl rfl)
theorem dX0_safe_5 : decode cX0_safe 5 = .ok (.ifCond .ne 5, 3) := dk_154 0 5 (dk_at dksX0_safe_0 5 rfl rfl)
theorem dX0_safe_8 : decode cX0_safe 8 = .ok (.iconst (-1), 1) := dk_2 (dk_at dksX0_safe_0 8 rfl rfl)
theorem dX0_safe_9 : decode cX0_safe 9 = .ok (.ireturn, 1) := dk_172 (dk_at dksX0_safe_0 9 rfl rfl)
theorem dX0_safe_10 : decode cX0_safe 10 = .ok (.aload_n 0, 1) := dk_42 (dk_at dksX0_safe_0 10 rfl rfl)
theorem dX0_safe_11 : decode cX0_safe 11 = .ok (.invokevirtual 241, 3) := dk_182 0 241 (dk_at dksX0_safe_0 11 rfl rfl)
theorem dX0_safe_14 : decode cX0_safe 14 = .ok (.iconst 0, 1) := dk_3 (dk_at dksX0_safe_0 14 rfl rfl)
theorem dX0_safe_15 : decode cX0_safe 15 = .ok (.istore_n 2, 1) := dk_61 (dk_at dksX0_safe_0 15 rfl rfl)
theorem dX0_safe_16 : decode cX0_safe 16 = .ok (.bipush (-2), 2) := dk_16 254 (dk_at dksX0_safe_0 16 rfl rfl)
theorem dX0_safe_18 : decode cX0_safe 18 = .ok (.istore_n 3, 1) := dk_62 (dk_at dksX0_safe_0 18 rfl rfl)
theorem dX0_safe_19 : decode cX0_safe 19 = .ok (.iconst 0, 1) := dk_3 (dk_at dksX0_safe_0 19 rfl rfl)
theorem dX0_safe_20 : decode cX0_safe 20 = .ok (.istore 4, 2) := dk_54 4 (dk_at dksX0_safe_0 20 rfl rfl)
theorem dX0_safe_22 : decode cX0_safe 22 = .ok (.iload 4, 2) := dk_21 4 (dk_at dksX0_safe_0 22 rfl rfl)
theorem dX0_safe_24 : decode cX0_safe 24 = .ok (.bipush 96, 2) := dk_16 96 (dk_at dksX0_safe_1 0 rfl rfl)
theorem dX0_safe_26 : decode cX0_safe 26 = .ok (.if_icmp .ge 51, 3) := dk_162 0 51 (dk_at dksX0_safe_1 2 rfl rfl)
theorem dX0_safe_29 : decode cX0_safe 29 = .ok (.aload_n 0, 1) := dk_42 (dk_at dksX0_safe_1 5 rfl rfl)
theorem dX0_safe_30 : decode cX0_safe 30 = .ok (.getfield 32, 3) := dk_180 0 32 (dk_at dksX0_safe_1 6 rfl rfl)
theorem dX0_safe_33 : decode cX0_safe 33 = .ok (.iload 4, 2) := dk_21 4 (dk_at dksX0_safe_1 9 rfl rfl)
theorem dX0_safe_35 : decode cX0_safe 35 = .ok (.iaload, 1) := dk_46 (dk_at dksX0_safe_1 11 rfl rfl)
theorem dX0_safe_36 : decode cX0_safe 36 = .ok (.iconst 1, 1) := dk_4 (dk_at dksX0_safe_1 12 rfl rfl)
theorem dX0_safe_37 : decode cX0_safe 37 = .ok (.if_icmp .ne 34, 3) := dk_160 0 34 (dk_at dksX0_safe_1 13 rfl rfl)
theorem dX0_safe_40 : decode cX0_safe 40 = .ok (.aload_n 0, 1) := dk_42 (dk_at dksX0_safe_1 16 rfl rfl)
theorem dX0_safe_41 : decode cX0_safe 41 = .ok (.getfield 68, 3) := dk_180 0 68 (dk_at dksX0_safe_1 17 rfl rfl)
theorem dX0_safe_44 : decode cX0_safe 44 = .ok (.iload 4, 2) := dk_21 4 (dk_at dksX0_safe_1 20 rfl rfl)
theorem dX0_safe_46 : decode cX0_safe 46 = .ok (.iaload, 1) := dk_46 (dk_at dksX0_safe_1 22 rfl rfl)
theorem dX0_safe_47 : decode cX0_safe 47 = .ok (.ldc 209, 2) := dk_18 209 (dk_at dksX0_safe_2 0 rfl rfl)
theorem dX0_safe_49 : decode cX0_safe 49 = .ok (.if_icmp .ge 6, 3) := dk_162 0 6 (dk_at dksX0_safe_2 2 rfl rfl)
theorem dX0_safe_52 : decode cX0_safe 52 = .ok (.goto 19, 3) := dk_167 0 19 (dk_at dksX0_safe_2 5 rfl rfl)
theorem dX0_safe_55 : decode cX0_safe 55 = .ok (.iinc 2 1, 3) := dk_132 2 1 (dk_at dksX0_safe_2 8 rfl rfl)
theorem dX0_safe_58 : decode cX0_safe 58 = .ok (.iload_n 3, 1) := dk_29 (dk_at dksX0_safe_2 11 rfl rfl)
theorem dX0_safe_59 : decode cX0_safe 59 = .ok (.bipush (-2), 2) := dk_16 254 (dk_at dksX0_safe_2 12 rfl rfl)
theorem dX0_safe_61 : decode cX0_safe 61 = .ok (.if_icmp .ne 8, 3) := dk_160 0 8 (dk_at dksX0_safe_2 14 rfl rfl)
theorem dX0_safe_64 : decode cX0_safe 64 = .ok (.iload 4, 2) := dk_21 4 (dk_at dksX0_safe_2 17 rfl rfl)
theorem dX0_safe_66 : decode cX0_safe 66 = .ok (.goto 4, 3) := dk_167 0 4 (dk_at dksX0_safe_2 19 rfl rfl)
theorem dX0_safe_69 : decode cX0_safe 69 = .ok (.iload_n 3, 1) := dk_29 (dk_at dksX0_safe_2 22 rfl rfl)
theorem dX0_safe_70 : decode cX0_safe 70 = .ok (.istore_n 3, 1) := dk_62 (dk_at dksX0_safe_2 23 rfl rfl)
theorem dX0_safe_71 : decode cX0_safe 71 = .ok (.iinc 4 1, 3) := dk_132 4 1 (dk_at dksX0_safe_3 0 rfl rfl)
theorem dX0_safe_74 : decode cX0_safe 74 = .ok (.goto (-52), 3) := dk_167 255 204 (dk_at dksX0_safe_3 3 rfl rfl)
theorem dX0_safe_77 : decode cX0_safe 77 = .ok (.iload_n 1, 1) := dk_27 (dk_at dksX0_safe_3 6 rfl rfl)
theorem dX0_safe_78 : decode cX0_safe 78 = .ok (.ifCond .ne 7, 3) := dk_154 0 7 (dk_at dksX0_safe_3 7 rfl rfl)
theorem dX0_safe_81 : decode cX0_safe 81 = .ok (.iload_n 2, 1) := dk_28 (dk_at dksX0_safe_3 10 rfl rfl)
theorem dX0_safe_82 : decode cX0_safe 82 = .ok (.goto 4, 3) := dk_167 0 4 (dk_at dksX0_safe_3 11 rfl rfl)
theorem dX0_safe_85 : decode cX0_safe 85 = .ok (.iload_n 3, 1) := dk_29 (dk_at dksX0_safe_3 14 rfl rfl)
theorem dX0_safe_86 : decode cX0_safe 86 = .ok (.ireturn, 1) := dk_172 (dk_at dksX0_safe_3 15 rfl rfl)
abbrev cX0_woods : ByteArray := prog_1_method_37_code
def yX0_woods : MethodName := ⟨RX0, "woods", "(I)I"⟩
def dkwX0_woods_6 : List UInt8 := [167, 0, 4, 29, 172]
abbrev dktX0_woods_6 : List UInt8 := dkwX0_woods_6 ++ []
def dkwX0_woods_5 : List UInt8 := [167, 0, 4, 3, 96, 61, 29, 21, 5, 184, 0, 7, 62, 132, 4, 1, 167, 255, 141, 27, 154, 0, 7, 28]
abbrev dktX0_woods_5 : List UInt8 := dkwX0_woods_5 ++ dktX0_woods_6
def dkwX0_woods_4 : List UInt8 := [21, 7, 167, 0, 5, 21, 6, 54, 6, 132, 7, 255, 167, 255, 205, 28, 21, 6, 21, 4, 160, 0, 7, 4]
abbrev dktX0_woods_4 : List UInt8 := dkwX0_woods_4 ++ dktX0_woods_5
def dkwX0_woods_3 : List UInt8 := [162, 0, 7, 4, 167, 0, 4, 3, 96, 54, 5, 42, 180, 0, 68, 21, 7, 46, 18, 209, 162, 0, 8]
abbrev dktX0_woods_3 : List UInt8 := dkwX0_woods_3 ++ dktX0_woods_4
def dkwX0_woods_2 : List UInt8 := [54, 6, 16, 95, 54, 7, 21, 7, 155, 0, 52, 21, 5, 42, 180, 0, 68, 21, 7, 46, 18, 209]
abbrev dktX0_woods_2 : List UInt8 := dkwX0_woods_2 ++ dktX0_woods_3
def dkwX0_woods_1 : List UInt8 := [42, 21, 4, 182, 0, 213, 154, 0, 6, 167, 0, 96, 42, 21, 4, 182, 0, 216, 3, 54, 5, 21, 4]
abbrev dktX0_woods_1 : List UInt8 := dkwX0_woods_1 ++ dktX0_woods_2
def dkwX0_woods_0 : List UInt8 := [27, 5, 184, 0, 12, 154, 0, 5, 2, 172, 3, 61, 3, 62, 3, 54, 4, 21, 4, 16, 96, 162, 0, 114]
abbrev dktX0_woods_0 : List UInt8 := dkwX0_woods_0 ++ dktX0_woods_1
theorem dksX0_woods_0 : cX0_woods.data.toList.drop 0 = dktX0_woods_0 := by decide +kernel
theorem dksX0_woods_1 : cX0_woods.data.toList.drop 24 = dktX0_woods_1 := dk_seg dksX0_woods_0 24 rfl rfl
theorem dksX0_woods_2 : cX0_woods.data.toList.drop 47 = dktX0_woods_2 := dk_seg dksX0_woods_1 23 rfl rfl
theorem dksX0_woods_3 : cX0_woods.data.toList.drop 69 = dktX0_woods_3 := dk_seg dksX0_woods_2 22 rfl rfl
theorem dksX0_woods_4 : cX0_woods.data.toList.drop 92 = dktX0_woods_4 := dk_seg dksX0_woods_3 23 rfl rfl
theorem dksX0_woods_5 : cX0_woods.data.toList.drop 116 = dktX0_woods_5 := dk_seg dksX0_woods_4 24 rfl rfl
theorem dksX0_woods_6 : cX0_woods.data.toList.drop 140 = dktX0_woods_6 := dk_seg dksX0_woods_5 24 rfl rfl
theorem dX0_woods_0 : decode cX0_woods 0 = .ok (.iload_n 1, 1) := dk_27 (dk_at dksX0_woods_0 0 rfl rfl)
theorem dX0_woods_1 : decode cX0_woods 1 = .ok (.iconst 2, 1) := dk_5 (dk_at dksX0_woods_0 1 rfl rfl)
theorem dX0_woods_2 : decode cX0_woods 2 = .ok (.invokestatic 12, 3) := dk_184 0 12 (dk_at dksX0_woods_0 2 rfl rfl)
theorem dX0_woods_5 : decode cX0_woods 5 = .ok (.ifCond .ne 5, 3) := dk_154 0 5 (dk_at dksX0_woods_0 5 rfl rfl)
theorem dX0_woods_8 : decode cX0_woods 8 = .ok (.iconst (-1), 1) := dk_2 (dk_at dksX0_woods_0 8 rfl rfl)
theorem dX0_woods_9 : decode cX0_woods 9 = .ok (.ireturn, 1) := dk_172 (dk_at dksX0_woods_0 9 rfl rfl)
theorem dX0_woods_10 : decode cX0_woods 10 = .ok (.iconst 0, 1) := dk_3 (dk_at dksX0_woods_0 10 rfl rfl)
theorem dX0_woods_11 : decode cX0_woods 11 = .ok (.istore_n 2, 1) := dk_61 (dk_at dksX0_woods_0 11 rfl rfl)
theorem dX0_woods_12 : decode cX0_woods 12 = .ok (.iconst 0, 1) := dk_3 (dk_at dksX0_woods_0 12 rfl rfl)
theorem dX0_woods_13 : decode cX0_woods 13 = .ok (.istore_n 3, 1) := dk_62 (dk_at dksX0_woods_0 13 rfl rfl)
theorem dX0_woods_14 : decode cX0_woods 14 = .ok (.iconst 0, 1) := dk_3 (dk_at dksX0_woods_0 14 rfl rfl)
theorem dX0_woods_15 : decode cX0_woods 15 = .ok (.istore 4, 2) := dk_54 4 (dk_at dksX0_woods_0 15 rfl rfl)
theorem dX0_woods_17 : decode cX0_woods 17 = .ok (.iload 4, 2) := dk_21 4 (dk_at dksX0_woods_0 17 rfl rfl)
theorem dX0_woods_19 : decode cX0_woods 19 = .ok (.bipush 96, 2) := dk_16 96 (dk_at dksX0_woods_0 19 rfl rfl)
theorem dX0_woods_21 : decode cX0_woods 21 = .ok (.if_icmp .ge 114, 3) := dk_162 0 114 (dk_at dksX0_woods_0 21 rfl rfl)
theorem dX0_woods_24 : decode cX0_woods 24 = .ok (.aload_n 0, 1) := dk_42 (dk_at dksX0_woods_1 0 rfl rfl)
theorem dX0_woods_25 : decode cX0_woods 25 = .ok (.iload 4, 2) := dk_21 4 (dk_at dksX0_woods_1 1 rfl rfl)
theorem dX0_woods_27 : decode cX0_woods 27 = .ok (.invokevirtual 213, 3) := dk_182 0 213 (dk_at dksX0_woods_1 3 rfl rfl)
theorem dX0_woods_30 : decode cX0_woods 30 = .ok (.ifCond .ne 6, 3) := dk_154 0 6 (dk_at dksX0_woods_1 6 rfl rfl)
theorem dX0_woods_33 : decode cX0_woods 33 = .ok (.goto 96, 3) := dk_167 0 96 (dk_at dksX0_woods_1 9 rfl rfl)
theorem dX0_woods_36 : decode cX0_woods 36 = .ok (.aload_n 0, 1) := dk_42 (dk_at dksX0_woods_1 12 rfl rfl)
theorem dX0_woods_37 : decode cX0_woods 37 = .ok (.iload 4, 2) := dk_21 4 (dk_at dksX0_woods_1 13 rfl rfl)
theorem dX0_woods_39 : decode cX0_woods 39 = .ok (.invokevirtual 216, 3) := dk_182 0 216 (dk_at dksX0_woods_1 15 rfl rfl)
theorem dX0_woods_42 : decode cX0_woods 42 = .ok (.iconst 0, 1) := dk_3 (dk_at dksX0_woods_1 18 rfl rfl)
theorem dX0_woods_43 : decode cX0_woods 43 = .ok (.istore 5, 2) := dk_54 5 (dk_at dksX0_woods_1 19 rfl rfl)
theorem dX0_woods_45 : decode cX0_woods 45 = .ok (.iload 4, 2) := dk_21 4 (dk_at dksX0_woods_1 21 rfl rfl)
theorem dX0_woods_47 : decode cX0_woods 47 = .ok (.istore 6, 2) := dk_54 6 (dk_at dksX0_woods_2 0 rfl rfl)
theorem dX0_woods_49 : decode cX0_woods 49 = .ok (.bipush 95, 2) := dk_16 95 (dk_at dksX0_woods_2 2 rfl rfl)
theorem dX0_woods_51 : decode cX0_woods 51 = .ok (.istore 7, 2) := dk_54 7 (dk_at dksX0_woods_2 4 rfl rfl)
theorem dX0_woods_53 : decode cX0_woods 53 = .ok (.iload 7, 2) := dk_21 7 (dk_at dksX0_woods_2 6 rfl rfl)
theorem dX0_woods_55 : decode cX0_woods 55 = .ok (.ifCond .lt 52, 3) := dk_155 0 52 (dk_at dksX0_woods_2 8 rfl rfl)
theorem dX0_woods_58 : decode cX0_woods 58 = .ok (.iload 5, 2) := dk_21 5 (dk_at dksX0_woods_2 11 rfl rfl)
theorem dX0_woods_60 : decode cX0_woods 60 = .ok (.aload_n 0, 1) := dk_42 (dk_at dksX0_woods_2 13 rfl rfl)
theorem dX0_woods_61 : decode cX0_woods 61 = .ok (.getfield 68, 3) := dk_180 0 68 (dk_at dksX0_woods_2 14 rfl rfl)
theorem dX0_woods_64 : decode cX0_woods 64 = .ok (.iload 7, 2) := dk_21 7 (dk_at dksX0_woods_2 17 rfl rfl)
theorem dX0_woods_66 : decode cX0_woods 66 = .ok (.iaload, 1) := dk_46 (dk_at dksX0_woods_2 19 rfl rfl)
theorem dX0_woods_67 : decode cX0_woods 67 = .ok (.ldc 209, 2) := dk_18 209 (dk_at dksX0_woods_2 20 rfl rfl)
theorem dX0_woods_69 : decode cX0_woods 69 = .ok (.if_icmp .ge 7, 3) := dk_162 0 7 (dk_at dksX0_woods_3 0 rfl rfl)
theorem dX0_woods_72 : decode cX0_woods 72 = .ok (.iconst 1, 1) := dk_4 (dk_at dksX0_woods_3 3 rfl rfl)
theorem dX0_woods_73 : decode cX0_woods 73 = .ok (.goto 4, 3) := dk_167 0 4 (dk_at dksX0_woods_3 4 rfl rfl)
theorem dX0_woods_76 : decode cX0_woods 76 = .ok (.iconst 0, 1) := dk_3 (dk_at dksX0_woods_3 7 rfl rfl)
theorem dX0_woods_77 : decode cX0_woods 77 = .ok (.iadd, 1) := dk_96 (dk_at dksX0_woods_3 8 rfl rfl)
theorem dX0_woods_78 : decode cX0_woods 78 = .ok (.istore 5, 2) := dk_54 5 (dk_at dksX0_woods_3 9 rfl rfl)
theorem dX0_woods_80 : decode cX0_woods 80 = .ok (.aload_n 0, 1) := dk_42 (dk_at dksX0_woods_3 11 rfl rfl)
theorem dX0_woods_81 : decode cX0_woods 81 = .ok (.getfield 68, 3) := dk_180 0 68 (dk_at dksX0_woods_3 12 rfl rfl)
theorem dX0_woods_84 : decode cX0_woods 84 = .ok (.iload 7, 2) := dk_21 7 (dk_at dksX0_woods_3 15 rfl rfl)
theorem dX0_woods_86 : decode cX0_woods 86 = .ok (.iaload, 1) := dk_46 (dk_at dksX0_woods_3 17 rfl rfl)
theorem dX0_woods_87 : decode cX0_woods 87 = .ok (.ldc 209, 2) := dk_18 209 (dk_at dksX0_woods_3 18 rfl rfl)
theorem dX0_woods_89 : decode cX0_woods 89 = .ok (.if_icmp .ge 8, 3) := dk_162 0 8 (dk_at dksX0_woods_3 20 rfl rfl)
theorem dX0_woods_92 : decode cX0_woods 92 = .ok (.iload 7, 2) := dk_21 7 (dk_at dksX0_woods_4 0 rfl rfl)
theorem dX0_woods_94 : decode cX0_woods 94 = .ok (.goto 5, 3) := dk_167 0 5 (dk_at dksX0_woods_4 2 rfl rfl)
theorem dX0_woods_97 : decode cX0_woods 97 = .ok (.iload 6, 2) := dk_21 6 (dk_at dksX0_woods_4 5 rfl rfl)
theorem dX0_woods_99 : decode cX0_woods 99 = .ok (.istore 6, 2) := dk_54 6 (dk_at dksX0_woods_4 7 rfl rfl)
theorem dX0_woods_101 : decode cX0_woods 101 = .ok (.iinc 7 (-1), 3) := dk_132 7 255 (dk_at dksX0_woods_4 9 rfl rfl)
theorem dX0_woods_104 : decode cX0_woods 104 = .ok (.goto (-51), 3) := dk_167 255 205 (dk_at dksX0_woods_4 12 rfl rfl)
theorem dX0_woods_107 : decode cX0_woods 107 = .ok (.iload_n 2, 1) := dk_28 (dk_at dksX0_woods_4 15 rfl rfl)
theorem dX0_woods_108 : decode cX0_woods 108 = .ok (.iload 6, 2) := dk_21 6 (dk_at dksX0_woods_4 16 rfl rfl)
theorem dX0_woods_110 : decode cX0_woods 110 = .ok (.iload 4, 2) := dk_21 4 (dk_at dksX0_woods_4 18 rfl rfl)
theorem dX0_woods_112 : decode cX0_woods 112 = .ok (.if_icmp .ne 7, 3) := dk_160 0 7 (dk_at dksX0_woods_4 20 rfl rfl)
theorem dX0_woods_115 : decode cX0_woods 115 = .ok (.iconst 1, 1) := dk_4 (dk_at dksX0_woods_4 23 rfl rfl)
theorem dX0_woods_116 : decode cX0_woods 116 = .ok (.goto 4, 3) := dk_167 0 4 (dk_at dksX0_woods_5 0 rfl rfl)
theorem dX0_woods_119 : decode cX0_woods 119 = .ok (.iconst 0, 1) := dk_3 (dk_at dksX0_woods_5 3 rfl rfl)
theorem dX0_woods_120 : decode cX0_woods 120 = .ok (.iadd, 1) := dk_96 (dk_at dksX0_woods_5 4 rfl rfl)
theorem dX0_woods_121 : decode cX0_woods 121 = .ok (.istore_n 2, 1) := dk_61 (dk_at dksX0_woods_5 5 rfl rfl)
theorem dX0_woods_122 : decode cX0_woods 122 = .ok (.iload_n 3, 1) := dk_29 (dk_at dksX0_woods_5 6 rfl rfl)
theorem dX0_woods_123 : decode cX0_woods 123 = .ok (.iload 5, 2) := dk_21 5 (dk_at dksX0_woods_5 7 rfl rfl)
theorem dX0_woods_125 : decode cX0_woods 125 = .ok (.invokestatic 7, 3) := dk_184 0 7 (dk_at dksX0_woods_5 9 rfl rfl)
theorem dX0_woods_128 : decode cX0_woods 128 = .ok (.istore_n 3, 1) := dk_62 (dk_at dksX0_woods_5 12 rfl rfl)
theorem dX0_woods_129 : decode cX0_woods 129 = .ok (.iinc 4 1, 3) := dk_132 4 1 (dk_at dksX0_woods_5 13 rfl rfl)
theorem dX0_woods_132 : decode cX0_woods 132 = .ok (.goto (-115), 3) := dk_167 255 141 (dk_at dksX0_woods_5 16 rfl rfl)
theorem dX0_woods_135 : decode cX0_woods 135 = .ok (.iload_n 1, 1) := dk_27 (dk_at dksX0_woods_5 19 rfl rfl)
theorem dX0_woods_136 : decode cX0_woods 136 = .ok (.ifCond .ne 7, 3) := dk_154 0 7 (dk_at dksX0_woods_5 20 rfl rfl)
theorem dX0_woods_139 : decode cX0_woods 139 = .ok (.iload_n 2, 1) := dk_28 (dk_at dksX0_woods_5 23 rfl rfl)
theorem dX0_woods_140 : decode cX0_woods 140 = .ok (.goto 4, 3) := dk_167 0 4 (dk_at dksX0_woods_6 0 rfl rfl)
theorem dX0_woods_143 : decode cX0_woods 143 = .ok (.iload_n 3, 1) := dk_29 (dk_at dksX0_woods_6 3 rfl rfl)
theorem dX0_woods_144 : decode cX0_woods 144 = .ok (.ireturn, 1) := dk_172 (dk_at dksX0_woods_6 4 rfl rfl)
abbrev cX0_insure : ByteArray := prog_1_method_40_code
def yX0_insure : MethodName := ⟨RX0, "insure", "(III)I"⟩
def dkwX0_insure_7 : List UInt8 := [5, 4, 182, 0, 253, 167, 0, 5, 21, 4, 172]
abbrev dktX0_insure_7 : List UInt8 := dkwX0_insure_7 ++ []
def dkwX0_insure_6 : List UInt8 := [154, 0, 15, 42, 21, 4, 27, 5, 3, 182, 0, 253, 167, 0, 22, 29, 4, 160, 0, 15, 42, 21, 4, 27]
abbrev dktX0_insure_6 : List UInt8 := dkwX0_insure_6 ++ dktX0_insure_7
def dkwX0_insure_5 : List UInt8 := [21, 4, 27, 5, 4, 182, 0, 253, 162, 0, 7, 21, 5, 54, 4, 132, 5, 1, 167, 255, 173, 29]
abbrev dktX0_insure_5 : List UInt8 := dkwX0_insure_5 ++ dktX0_insure_6
def dkwX0_insure_4 : List UInt8 := [100, 54, 6, 21, 6, 157, 0, 29, 21, 6, 154, 0, 28, 42, 21, 5, 27, 5, 4, 182, 0, 253, 42]
abbrev dktX0_insure_4 : List UInt8 := dkwX0_insure_4 ++ dktX0_insure_5
def dkwX0_insure_3 : List UInt8 := [164, 0, 6, 167, 0, 59, 42, 21, 5, 27, 5, 3, 182, 0, 253, 42, 21, 4, 27, 5, 3, 182, 0, 253]
abbrev dktX0_insure_3 : List UInt8 := dkwX0_insure_3 ++ dktX0_insure_4
def dkwX0_insure_2 : List UInt8 := [54, 4, 4, 54, 5, 21, 5, 4, 27, 120, 162, 0, 81, 42, 21, 5, 27, 5, 4, 182, 0, 253, 28]
abbrev dktX0_insure_2 : List UInt8 := dkwX0_insure_2 ++ dktX0_insure_3
def dkwX0_insure_1 : List UInt8 := [184, 0, 12, 153, 0, 13, 5, 27, 104, 42, 180, 0, 106, 164, 0, 5, 2, 172, 42, 3, 181, 0, 106, 3]
abbrev dktX0_insure_1 : List UInt8 := dkwX0_insure_1 ++ dktX0_insure_2
def dkwX0_insure_0 : List UInt8 := [27, 4, 16, 10, 184, 0, 113, 153, 0, 32, 28, 3, 17, 9, 246, 184, 0, 113, 153, 0, 21, 29, 6]
abbrev dktX0_insure_0 : List UInt8 := dkwX0_insure_0 ++ dktX0_insure_1
theorem dksX0_insure_0 : cX0_insure.data.toList.drop 0 = dktX0_insure_0 := by decide +kernel
theorem dksX0_insure_1 : cX0_insure.data.toList.drop 23 = dktX0_insure_1 := dk_seg dksX0_insure_0 23 rfl rfl
theorem dksX0_insure_2 : cX0_insure.data.toList.drop 47 = dktX0_insure_2 := dk_seg dksX0_insure_1 24 rfl rfl
theorem dksX0_insure_3 : cX0_insure.data.toList.drop 70 = dktX0_insure_3 := dk_seg dksX0_insure_2 23 rfl rfl
theorem dksX0_insure_4 : cX0_insure.data.toList.drop 94 = dktX0_insure_4 := dk_seg dksX0_insure_3 24 rfl rfl
theorem dksX0_insure_5 : cX0_insure.data.toList.drop 117 = dktX0_insure_5 := dk_seg dksX0_insure_4 23 rfl rfl
theorem dksX0_insure_6 : cX0_insure.data.toList.drop 139 = dktX0_insure_6 := dk_seg dksX0_insure_5 22 rfl rfl
theorem dksX0_insure_7 : cX0_insure.data.toList.drop 163 = dktX0_insure_7 := dk_seg dksX0_insure_6 24 rfl rfl
theorem dX0_insure_0 : decode cX0_insure 0 = .ok (.iload_n 1, 1) := dk_27 (dk_at dksX0_insure_0 0 rfl rfl)
theorem dX0_insure_1 : decode cX0_insure 1 = .ok (.iconst 1, 1) := dk_4 (dk_at dksX0_insure_0 1 rfl rfl)
theorem dX0_insure_2 : decode cX0_insure 2 = .ok (.bipush 10, 2) := dk_16 10 (dk_at dksX0_insure_0 2 rfl rfl)
theorem dX0_insure_4 : decode cX0_insure 4 = .ok (.invokestatic 113, 3) := dk_184 0 113 (dk_at dksX0_insure_0 4 rfl rfl)
theorem dX0_insure_7 : decode cX0_insure 7 = .ok (.ifCond .eq 32, 3) := dk_153 0 32 (dk_at dksX0_insure_0 7 rfl rfl)
theorem dX0_insure_10 : decode cX0_insure 10 = .ok (.iload_n 2, 1) := dk_28 (dk_at dksX0_insure_0 10 rfl rfl)
theorem dX0_insure_11 : decode cX0_insure 11 = .ok (.iconst 0, 1) := dk_3 (dk_at dksX0_insure_0 11 rfl rfl)
theorem dX0_insure_12 : decode cX0_insure 12 = .ok (.sipush 2550, 3) := dk_17 9 246 (dk_at dksX0_insure_0 12 rfl rfl)
theorem dX0_insure_15 : decode cX0_insure 15 = .ok (.invokestatic 113, 3) := dk_184 0 113 (dk_at dksX0_insure_0 15 rfl rfl)
theorem dX0_insure_18 : decode cX0_insure 18 = .ok (.ifCond .eq 21, 3) := dk_153 0 21 (dk_at dksX0_insure_0 18 rfl rfl)
theorem dX0_insure_21 : decode cX0_insure 21 = .ok (.iload_n 3, 1) := dk_29 (dk_at dksX0_insure_0 21 rfl rfl)
theorem dX0_insure_22 : decode cX0_insure 22 = .ok (.iconst 3, 1) := dk_6 (dk_at dksX0_insure_0 22 rfl rfl)
theorem dX0_insure_23 : decode cX0_insure 23 = .ok (.invokestatic 12, 3) := dk_184 0 12 (dk_at dksX0_insure_1 0 rfl rfl)
theorem dX0_insure_26 : decode cX0_insure 26 = .ok (.ifCond .eq 13, 3) := dk_153 0 13 (dk_at dksX0_insure_1 3 rfl rfl)
theorem dX0_insure_29 : decode cX0_insure 29 = .ok (.iconst 2, 1) := dk_5 (dk_at dksX0_insure_1 6 rfl rfl)
theorem dX0_insure_30 : decode cX0_insure 30 = .ok (.iload_n 1, 1) := dk_27 (dk_at dksX0_insure_1 7 rfl rfl)
theorem dX0_insure_31 : decode cX0_insure 31 = .ok (.imul, 1) := dk_104 (dk_at dksX0_insure_1 8 rfl rfl)
theorem dX0_insure_32 : decode cX0_insure 32 = .ok (.aload_n 0, 1) := dk_42 (dk_at dksX0_insure_1 9 rfl rfl)
theorem dX0_insure_33 : decode cX0_insure 33 = .ok (.getfield 106, 3) := dk_180 0 106 (dk_at dksX0_insure_1 10 rfl rfl)
theorem dX0_insure_36 : decode cX0_insure 36 = .ok (.if_icmp .le 5, 3) := dk_164 0 5 (dk_at dksX0_insure_1 13 rfl rfl)
theorem dX0_insure_39 : decode cX0_insure 39 = .ok (.iconst (-1), 1) := dk_2 (dk_at dksX0_insure_1 16 rfl rfl)
theorem dX0_insure_40 : decode cX0_insure 40 = .ok (.ireturn, 1) := dk_172 (dk_at dksX0_insure_1 17 rfl rfl)
theorem dX0_insure_41 : decode cX0_insure 41 = .ok (.aload_n 0, 1) := dk_42 (dk_at dksX0_insure_1 18 rfl rfl)
theorem dX0_insure_42 : decode cX0_insure 42 = .ok (.iconst 0, 1) := dk_3 (dk_at dksX0_insure_1 19 rfl rfl)
theorem dX0_insure_43 : decode cX0_insure 43 = .ok (.putfield 106, 3) := dk_181 0 106 (dk_at dksX0_insure_1 20 rfl rfl)
theorem dX0_insure_46 : decode cX0_insure 46 = .ok (.iconst 0, 1) := dk_3 (dk_at dksX0_insure_1 23 rfl rfl)
theorem dX0_insure_47 : decode cX0_insure 47 = .ok (.istore 4, 2) := dk_54 4 (dk_at dksX0_insure_2 0 rfl rfl)
theorem dX0_insure_49 : decode cX0_insure 49 = .ok (.iconst 1, 1) := dk_4 (dk_at dksX0_insure_2 2 rfl rfl)
theorem dX0_insure_50 : decode cX0_insure 50 = .ok (.istore 5, 2) := dk_54 5 (dk_at dksX0_insure_2 3 rfl rfl)
theorem dX0_insure_52 : decode cX0_insure 52 = .ok (.iload 5, 2) := dk_21 5 (dk_at dksX0_insure_2 5 rfl rfl)
theorem dX0_insure_54 : decode cX0_insure 54 = .ok (.iconst 1, 1) := dk_4 (dk_at dksX0_insure_2 7 rfl rfl)
theorem dX0_insure_55 : decode cX0_insure 55 = .ok (.iload_n 1, 1) := dk_27 (dk_at dksX0_insure_2 8 rfl rfl)
theorem dX0_insure_56 : decode cX0_insure 56 = .ok (.ishl, 1) := dk_120 (dk_at dksX0_insure_2 9 rfl rfl)
theorem dX0_insure_57 : decode cX0_insure 57 = .ok (.if_icmp .ge 81, 3) := dk_162 0 81 (dk_at dksX0_insure_2 10 rfl rfl)
theorem dX0_insure_60 : decode cX0_insure 60 = .ok (.aload_n 0, 1) := dk_42 (dk_at dksX0_insure_2 13 rfl rfl)
theorem dX0_insure_61 : decode cX0_insure 61 = .ok (.iload 5, 2) := dk_21 5 (dk_at dksX0_insure_2 14 rfl rfl)
theorem dX0_insure_63 : decode cX0_insure 63 = .ok (.iload_n 1, 1) := dk_27 (dk_at dksX0_insure_2 16 rfl rfl)
theorem dX0_insure_64 : decode cX0_insure 64 = .ok (.iconst 2, 1) := dk_5 (dk_at dksX0_insure_2 17 rfl rfl)
theorem dX0_insure_65 : decode cX0_insure 65 = .ok (.iconst 1, 1) := dk_4 (dk_at dksX0_insure_2 18 rfl rfl)
theorem dX0_insure_66 : decode cX0_insure 66 = .ok (.invokevirtual 253, 3) := dk_182 0 253 (dk_at dksX0_insure_2 19 rfl rfl)
theorem dX0_insure_69 : decode cX0_insure 69 = .ok (.iload_n 2, 1) := dk_28 (dk_at dksX0_insure_2 22 rfl rfl)
theorem dX0_insure_70 : decode cX0_insure 70 = .ok (.if_icmp .le 6, 3) := dk_164 0 6 (dk_at dksX0_insure_3 0 rfl rfl)
theorem dX0_insure_73 : decode cX0_insure 73 = .ok (.goto 59, 3) := dk_167 0 59 (dk_at dksX0_insure_3 3 rfl rfl)
theorem dX0_insure_76 : decode cX0_insure 76 = .ok (.aload_n 0, 1) := dk_42 (dk_at dksX0_insure_3 6 rfl rfl)
theorem dX0_insure_77 : decode cX0_insure 77 = .ok (.iload 5, 2) := dk_21 5 (dk_at dksX0_insure_3 7 rfl rfl)
theorem dX0_insure_79 : decode cX0_insure 79 = .ok (.iload_n 1, 1) := dk_27 (dk_at dksX0_insure_3 9 rfl rfl)
theorem dX0_insure_80 : decode cX0_insure 80 = .ok (.iconst 2, 1) := dk_5 (dk_at dksX0_insure_3 10 rfl rfl)
theorem dX0_insure_81 : decode cX0_insure 81 = .ok (.iconst 0, 1) := dk_3 (dk_at dksX0_insure_3 11 rfl rfl)
theorem dX0_insure_82 : decode cX0_insure 82 = .ok (.invokevirtual 253, 3) := dk_182 0 253 (dk_at dksX0_insure_3 12 rfl rfl)
theorem dX0_insure_85 : decode cX0_insure 85 = .ok (.aload_n 0, 1) := dk_42 (dk_at dksX0_insure_3 15 rfl rfl)
theorem dX0_insure_86 : decode cX0_insure 86 = .ok (.iload 4, 2) := dk_21 4 (dk_at dksX0_insure_3 16 rfl rfl)
theorem dX0_insure_88 : decode cX0_insure 88 = .ok (.iload_n 1, 1) := dk_27 (dk_at dksX0_insure_3 18 rfl rfl)
theorem dX0_insure_89 : decode cX0_insure 89 = .ok (.iconst 2, 1) := dk_5 (dk_at dksX0_insure_3 19 rfl rfl)
theorem dX0_insure_90 : decode cX0_insure 90 = .ok (.iconst 0, 1) := dk_3 (dk_at dksX0_insure_3 20 rfl rfl)
theorem dX0_insure_91 : decode cX0_insure 91 = .ok (.invokevirtual 253, 3) := dk_182 0 253 (dk_at dksX0_insure_3 21 rfl rfl)
theorem dX0_insure_94 : decode cX0_insure 94 = .ok (.isub, 1) := dk_100 (dk_at dksX0_insure_4 0 rfl rfl)
theorem dX0_insure_95 : decode cX0_insure 95 = .ok (.istore 6, 2) := dk_54 6 (dk_at dksX0_insure_4 1 rfl rfl)
theorem dX0_insure_97 : decode cX0_insure 97 = .ok (.iload 6, 2) := dk_21 6 (dk_at dksX0_insure_4 3 rfl rfl)
theorem dX0_insure_99 : decode cX0_insure 99 = .ok (.ifCond .gt 29, 3) := dk_157 0 29 (dk_at dksX0_insure_4 5 rfl rfl)
theorem dX0_insure_102 : decode cX0_insure 102 = .ok (.iload 6, 2) := dk_21 6 (dk_at dksX0_insure_4 8 rfl rfl)
theorem dX0_insure_104 : decode cX0_insure 104 = .ok (.ifCond .ne 28, 3) := dk_154 0 28 (dk_at dksX0_insure_4 10 rfl rfl)
theorem dX0_insure_107 : decode cX0_insure 107 = .ok (.aload_n 0, 1) := dk_42 (dk_at dksX0_insure_4 13 rfl rfl)
theorem dX0_insure_108 : decode cX0_insure 108 = .ok (.iload 5, 2) := dk_21 5 (dk_at dksX0_insure_4 14 rfl rfl)
theorem dX0_insure_110 : decode cX0_insure 110 = .ok (.iload_n 1, 1) := dk_27 (dk_at dksX0_insure_4 16 rfl rfl)
theorem dX0_insure_111 : decode cX0_insure 111 = .ok (.iconst 2, 1) := dk_5 (dk_at dksX0_insure_4 17 rfl rfl)
theorem dX0_insure_112 : decode cX0_insure 112 = .ok (.iconst 1, 1) := dk_4 (dk_at dksX0_insure_4 18 rfl rfl)
theorem dX0_insure_113 : decode cX0_insure 113 = .ok (.invokevirtual 253, 3) := dk_182 0 253 (dk_at dksX0_insure_4 19 rfl rfl)
theorem dX0_insure_116 : decode cX0_insure 116 = .ok (.aload_n 0, 1) := dk_42 (dk_at dksX0_insure_4 22 rfl rfl)
theorem dX0_insure_117 : decode cX0_insure 117 = .ok (.iload 4, 2) := dk_21 4 (dk_at dksX0_insure_5 0 rfl rfl)
theorem dX0_insure_119 : decode cX0_insure 119 = .ok (.iload_n 1, 1) := dk_27 (dk_at dksX0_insure_5 2 rfl rfl)
theorem dX0_insure_120 : decode cX0_insure 120 = .ok (.iconst 2, 1) := dk_5 (dk_at dksX0_insure_5 3 rfl rfl)
theorem dX0_insure_121 : decode cX0_insure 121 = .ok (.iconst 1, 1) := dk_4 (dk_at dksX0_insure_5 4 rfl rfl)
theorem dX0_insure_122 : decode cX0_insure 122 = .ok (.invokevirtual 253, 3) := dk_182 0 253 (dk_at dksX0_insure_5 5 rfl rfl)
theorem dX0_insure_125 : decode cX0_insure 125 = .ok (.if_icmp .ge 7, 3) := dk_162 0 7 (dk_at dksX0_insure_5 8 rfl rfl)
theorem dX0_insure_128 : decode cX0_insure 128 = .ok (.iload 5, 2) := dk_21 5 (dk_at dksX0_insure_5 11 rfl rfl)
theorem dX0_insure_130 : decode cX0_insure 130 = .ok (.istore 4, 2) := dk_54 4 (dk_at dksX0_insure_5 13 rfl rfl)
theorem dX0_insure_132 : decode cX0_insure 132 = .ok (.iinc 5 1, 3) := dk_132 5 1 (dk_at dksX0_insure_5 15 rfl rfl)
theorem dX0_insure_135 : decode cX0_insure 135 = .ok (.goto (-83), 3) := dk_167 255 173 (dk_at dksX0_insure_5 18 rfl rfl)
theorem dX0_insure_138 : decode cX0_insure 138 = .ok (.iload_n 3, 1) := dk_29 (dk_at dksX0_insure_5 21 rfl rfl)
theorem dX0_insure_139 : decode cX0_insure 139 = .ok (.ifCond .ne 15, 3) := dk_154 0 15 (dk_at dksX0_insure_6 0 rfl rfl)
theorem dX0_insure_142 : decode cX0_insure 142 = .ok (.aload_n 0, 1) := dk_42 (dk_at dksX0_insure_6 3 rfl rfl)
theorem dX0_insure_143 : decode cX0_insure 143 = .ok (.iload 4, 2) := dk_21 4 (dk_at dksX0_insure_6 4 rfl rfl)
theorem dX0_insure_145 : decode cX0_insure 145 = .ok (.iload_n 1, 1) := dk_27 (dk_at dksX0_insure_6 6 rfl rfl)
theorem dX0_insure_146 : decode cX0_insure 146 = .ok (.iconst 2, 1) := dk_5 (dk_at dksX0_insure_6 7 rfl rfl)
theorem dX0_insure_147 : decode cX0_insure 147 = .ok (.iconst 0, 1) := dk_3 (dk_at dksX0_insure_6 8 rfl rfl)
theorem dX0_insure_148 : decode cX0_insure 148 = .ok (.invokevirtual 253, 3) := dk_182 0 253 (dk_at dksX0_insure_6 9 rfl rfl)
theorem dX0_insure_151 : decode cX0_insure 151 = .ok (.goto 22, 3) := dk_167 0 22 (dk_at dksX0_insure_6 12 rfl rfl)
theorem dX0_insure_154 : decode cX0_insure 154 = .ok (.iload_n 3, 1) := dk_29 (dk_at dksX0_insure_6 15 rfl rfl)
theorem dX0_insure_155 : decode cX0_insure 155 = .ok (.iconst 1, 1) := dk_4 (dk_at dksX0_insure_6 16 rfl rfl)
theorem dX0_insure_156 : decode cX0_insure 156 = .ok (.if_icmp .ne 15, 3) := dk_160 0 15 (dk_at dksX0_insure_6 17 rfl rfl)
theorem dX0_insure_159 : decode cX0_insure 159 = .ok (.aload_n 0, 1) := dk_42 (dk_at dksX0_insure_6 20 rfl rfl)
theorem dX0_insure_160 : decode cX0_insure 160 = .ok (.iload 4, 2) := dk_21 4 (dk_at dksX0_insure_6 21 rfl rfl)
theorem dX0_insure_162 : decode cX0_insure 162 = .ok (.iload_n 1, 1) := dk_27 (dk_at dksX0_insure_6 23 rfl rfl)
theorem dX0_insure_163 : decode cX0_insure 163 = .ok (.iconst 2, 1) := dk_5 (dk_at dksX0_insure_7 0 rfl rfl)
theorem dX0_insure_164 : decode cX0_insure 164 = .ok (.iconst 1, 1) := dk_4 (dk_at dksX0_insure_7 1 rfl rfl)
theorem dX0_insure_165 : decode cX0_insure 165 = .ok (.invokevirtual 253, 3) := dk_182 0 253 (dk_at dksX0_insure_7 2 rfl rfl)
theorem dX0_insure_168 : decode cX0_insure 168 = .ok (.goto 5, 3) := dk_167 0 5 (dk_at dksX0_insure_7 5 rfl rfl)
theorem dX0_insure_171 : decode cX0_insure 171 = .ok (.iload 4, 2) := dk_21 4 (dk_at dksX0_insure_7 8 rfl rfl)
theorem dX0_insure_173 : decode cX0_insure 173 = .ok (.ireturn, 1) := dk_172 (dk_at dksX0_insure_7 10 rfl rfl)
abbrev cX0_sumOf : ByteArray := prog_1_method_39_code
def yX0_sumOf : MethodName := ⟨RX0, "sumOf", "(IIII)I"⟩
def dkwX0_sumOf_2 : List UInt8 := [21, 5, 172]
abbrev dktX0_sumOf_2 : List UInt8 := dkwX0_sumOf_2 ++ []
def dkwX0_sumOf_1 : List UInt8 := [29, 21, 6, 104, 21, 4, 96, 182, 0, 250, 167, 0, 4, 3, 96, 54, 5, 132, 6, 1, 167, 255, 218]
abbrev dktX0_sumOf_1 : List UInt8 := dkwX0_sumOf_1 ++ dktX0_sumOf_2
def dkwX0_sumOf_0 : List UInt8 := [3, 54, 5, 3, 54, 6, 21, 6, 28, 162, 0, 38, 21, 5, 27, 21, 6, 184, 0, 247, 153, 0, 17, 42]
abbrev dktX0_sumOf_0 : List UInt8 := dkwX0_sumOf_0 ++ dktX0_sumOf_1
theorem dksX0_sumOf_0 : cX0_sumOf.data.toList.drop 0 = dktX0_sumOf_0 := by decide +kernel
theorem dksX0_sumOf_1 : cX0_sumOf.data.toList.drop 24 = dktX0_sumOf_1 := dk_seg dksX0_sumOf_0 24 rfl rfl
theorem dksX0_sumOf_2 : cX0_sumOf.data.toList.drop 47 = dktX0_sumOf_2 := dk_seg dksX0_sumOf_1 23 rfl rfl
theorem dX0_sumOf_0 : decode cX0_sumOf 0 = .ok (.iconst 0, 1) := dk_3 (dk_at dksX0_sumOf_0 0 rfl rfl)
theorem dX0_sumOf_1 : decode cX0_sumOf 1 = .ok (.istore 5, 2) := dk_54 5 (dk_at dksX0_sumOf_0 1 rfl rfl)
theorem dX0_sumOf_3 : decode cX0_sumOf 3 = .ok (.iconst 0, 1) := dk_3 (dk_at dksX0_sumOf_0 3 rfl rfl)
theorem dX0_sumOf_4 : decode cX0_sumOf 4 = .ok (.istore 6, 2) := dk_54 6 (dk_at dksX0_sumOf_0 4 rfl rfl)
theorem dX0_sumOf_6 : decode cX0_sumOf 6 = .ok (.iload 6, 2) := dk_21 6 (dk_at dksX0_sumOf_0 6 rfl rfl)
theorem dX0_sumOf_8 : decode cX0_sumOf 8 = .ok (.iload_n 2, 1) := dk_28 (dk_at dksX0_sumOf_0 8 rfl rfl)
theorem dX0_sumOf_9 : decode cX0_sumOf 9 = .ok (.if_icmp .ge 38, 3) := dk_162 0 38 (dk_at dksX0_sumOf_0 9 rfl rfl)
theorem dX0_sumOf_12 : decode cX0_sumOf 12 = .ok (.iload 5, 2) := dk_21 5 (dk_at dksX0_sumOf_0 12 rfl rfl)
theorem dX0_sumOf_14 : decode cX0_sumOf 14 = .ok (.iload_n 1, 1) := dk_27 (dk_at dksX0_sumOf_0 14 rfl rfl)
theorem dX0_sumOf_15 : decode cX0_sumOf 15 = .ok (.iload 6, 2) := dk_21 6 (dk_at dksX0_sumOf_0 15 rfl rfl)
theorem dX0_sumOf_17 : decode cX0_sumOf 17 = .ok (.invokestatic 247, 3) := dk_184 0 247 (dk_at dksX0_sumOf_0 17 rfl rfl)
theorem dX0_sumOf_20 : decode cX0_sumOf 20 = .ok (.ifCond .eq 17, 3) := dk_153 0 17 (dk_at dksX0_sumOf_0 20 rfl rfl)
theorem dX0_sumOf_23 : decode cX0_sumOf 23 = .ok (.aload_n 0, 1) := dk_42 (dk_at dksX0_sumOf_0 23 rfl rfl)
theorem dX0_sumOf_24 : decode cX0_sumOf 24 = .ok (.iload_n 3, 1) := dk_29 (dk_at dksX0_sumOf_1 0 rfl rfl)
theorem dX0_sumOf_25 : decode cX0_sumOf 25 = .ok (.iload 6, 2) := dk_21 6 (dk_at dksX0_sumOf_1 1 rfl rfl)
theorem dX0_sumOf_27 : decode cX0_sumOf 27 = .ok (.imul, 1) := dk_104 (dk_at dksX0_sumOf_1 3 rfl rfl)
theorem dX0_sumOf_28 : decode cX0_sumOf 28 = .ok (.iload 4, 2) := dk_21 4 (dk_at dksX0_sumOf_1 4 rfl rfl)
theorem dX0_sumOf_30 : decode cX0_sumOf 30 = .ok (.iadd, 1) := dk_96 (dk_at dksX0_sumOf_1 6 rfl rfl)
theorem dX0_sumOf_31 : decode cX0_sumOf 31 = .ok (.invokevirtual 250, 3) := dk_182 0 250 (dk_at dksX0_sumOf_1 7 rfl rfl)
theorem dX0_sumOf_34 : decode cX0_sumOf 34 = .ok (.goto 4, 3) := dk_167 0 4 (dk_at dksX0_sumOf_1 10 rfl rfl)
theorem dX0_sumOf_37 : decode cX0_sumOf 37 = .ok (.iconst 0, 1) := dk_3 (dk_at dksX0_sumOf_1 13 rfl rfl)
theorem dX0_sumOf_38 : decode cX0_sumOf 38 = .ok (.iadd, 1) := dk_96 (dk_at dksX0_sumOf_1 14 rfl rfl)
theorem dX0_sumOf_39 : decode cX0_sumOf 39 = .ok (.istore 5, 2) := dk_54 5 (dk_at dksX0_sumOf_1 15 rfl rfl)
theorem dX0_sumOf_41 : decode cX0_sumOf 41 = .ok (.iinc 6 1, 3) := dk_132 6 1 (dk_at dksX0_sumOf_1 17 rfl rfl)
theorem dX0_sumOf_44 : decode cX0_sumOf 44 = .ok (.goto (-38), 3) := dk_167 255 218 (dk_at dksX0_sumOf_1 20 rfl rfl)
theorem dX0_sumOf_47 : decode cX0_sumOf 47 = .ok (.iload 5, 2) := dk_21 5 (dk_at dksX0_sumOf_2 0 rfl rfl)
theorem dX0_sumOf_49 : decode cX0_sumOf 49 = .ok (.ireturn, 1) := dk_172 (dk_at dksX0_sumOf_2 2 rfl rfl)
abbrev cX0_has : ByteArray := prog_1_method_3_code
def yX0_has : MethodName := ⟨RX0, "has", "(II)Z"⟩
def dkwX0_has_0 : List UInt8 := [26, 27, 122, 4, 126, 4, 160, 0, 7, 4, 167, 0, 4, 3, 172]
abbrev dktX0_has_0 : List UInt8 := dkwX0_has_0 ++ []
theorem dksX0_has_0 : cX0_has.data.toList.drop 0 = dktX0_has_0 := by decide +kernel
theorem dX0_has_0 : decode cX0_has 0 = .ok (.iload_n 0, 1) := dk_26 (dk_at dksX0_has_0 0 rfl rfl)
theorem dX0_has_1 : decode cX0_has 1 = .ok (.iload_n 1, 1) := dk_27 (dk_at dksX0_has_0 1 rfl rfl)
theorem dX0_has_2 : decode cX0_has 2 = .ok (.ishr, 1) := dk_122 (dk_at dksX0_has_0 2 rfl rfl)
theorem dX0_has_3 : decode cX0_has 3 = .ok (.iconst 1, 1) := dk_4 (dk_at dksX0_has_0 3 rfl rfl)
theorem dX0_has_4 : decode cX0_has 4 = .ok (.iand, 1) := dk_126 (dk_at dksX0_has_0 4 rfl rfl)
theorem dX0_has_5 : decode cX0_has 5 = .ok (.iconst 1, 1) := dk_4 (dk_at dksX0_has_0 5 rfl rfl)
theorem dX0_has_6 : decode cX0_has 6 = .ok (.if_icmp .ne 7, 3) := dk_160 0 7 (dk_at dksX0_has_0 6 rfl rfl)
theorem dX0_has_9 : decode cX0_has 9 = .ok (.iconst 1, 1) := dk_4 (dk_at dksX0_has_0 9 rfl rfl)
theorem dX0_has_10 : decode cX0_has 10 = .ok (.goto 4, 3) := dk_167 0 4 (dk_at dksX0_has_0 10 rfl rfl)
theorem dX0_has_13 : decode cX0_has 13 = .ok (.iconst 0, 1) := dk_3 (dk_at dksX0_has_0 13 rfl rfl)
theorem dX0_has_14 : decode cX0_has 14 = .ok (.ireturn, 1) := dk_172 (dk_at dksX0_has_0 14 rfl rfl)
abbrev cX0_fed : ByteArray := prog_1_method_38_code
def yX0_fed : MethodName := ⟨RX0, "fed", "(I)I"⟩
def dkwX0_fed_0 : List UInt8 := [42, 180, 0, 57, 27, 51, 17, 0, 255, 126, 172]
abbrev dktX0_fed_0 : List UInt8 := dkwX0_fed_0 ++ []
theorem dksX0_fed_0 : cX0_fed.data.toList.drop 0 = dktX0_fed_0 := by decide +kernel
theorem dX0_fed_0 : decode cX0_fed 0 = .ok (.aload_n 0, 1) := dk_42 (dk_at dksX0_fed_0 0 rfl rfl)
theorem dX0_fed_1 : decode cX0_fed 1 = .ok (.getfield 57, 3) := dk_180 0 57 (dk_at dksX0_fed_0 1 rfl rfl)
theorem dX0_fed_4 : decode cX0_fed 4 = .ok (.iload_n 1, 1) := dk_27 (dk_at dksX0_fed_0 4 rfl rfl)
theorem dX0_fed_5 : decode cX0_fed 5 = .ok (.baload, 1) := dk_51 (dk_at dksX0_fed_0 5 rfl rfl)
theorem dX0_fed_6 : decode cX0_fed 6 = .ok (.sipush 255, 3) := dk_17 0 255 (dk_at dksX0_fed_0 6 rfl rfl)
theorem dX0_fed_9 : decode cX0_fed 9 = .ok (.iand, 1) := dk_126 (dk_at dksX0_fed_0 9 rfl rfl)
theorem dX0_fed_10 : decode cX0_fed 10 = .ok (.ireturn, 1) := dk_172 (dk_at dksX0_fed_0 10 rfl rfl)
abbrev cX0_roundFigure : ByteArray := prog_1_method_41_code
def yX0_roundFigure : MethodName := ⟨RX0, "roundFigure", "(I)I"⟩
def dkwX0_roundFigure_3 : List UInt8 := [167, 255, 211, 29, 16, 10, 104, 62, 167, 255, 193, 28, 172]
abbrev dktX0_roundFigure_3 : List UInt8 := dkwX0_roundFigure_3 ++ []
def dkwX0_roundFigure_2 : List UInt8 := [162, 0, 8, 21, 4, 29, 104, 61, 21, 4, 21, 4, 4, 160, 0, 7, 4, 167, 0, 4, 6, 96, 54, 4]
abbrev dktX0_roundFigure_2 : List UInt8 := dkwX0_roundFigure_2 ++ dktX0_roundFigure_3
def dkwX0_roundFigure_1 : List UInt8 := [4, 54, 4, 21, 4, 8, 163, 0, 45, 21, 4, 29, 104, 27, 100, 184, 1, 3, 28, 27, 100, 184, 1, 3]
abbrev dktX0_roundFigure_1 : List UInt8 := dkwX0_roundFigure_1 ++ dktX0_roundFigure_2
def dkwX0_roundFigure_0 : List UInt8 := [27, 4, 19, 1, 1, 184, 0, 113, 154, 0, 5, 2, 172, 4, 61, 4, 62, 29, 19, 1, 2, 163, 0, 62]
abbrev dktX0_roundFigure_0 : List UInt8 := dkwX0_roundFigure_0 ++ dktX0_roundFigure_1
theorem dksX0_roundFigure_0 : cX0_roundFigure.data.toList.drop 0 = dktX0_roundFigure_0 := by decide +kernel
theorem dksX0_roundFigure_1 : cX0_roundFigure.data.toList.drop 24 = dktX0_roundFigure_1 := dk_seg dksX0_roundFigure_0 24 rfl rfl
theorem dksX0_roundFigure_2 : cX0_roundFigure.data.toList.drop 48 = dktX0_roundFigure_2 := dk_seg dksX0_roundFigure_1 24 rfl rfl
theorem dksX0_roundFigure_3 : cX0_roundFigure.data.toList.drop 72 = dktX0_roundFigure_3 := dk_seg dksX0_roundFigure_2 24 rfl rfl
theorem dX0_roundFigure_0 : decode cX0_roundFigure 0 = .ok (.iload_n 1, 1) := dk_27 (dk_at dksX0_roundFigure_0 0 rfl rfl)
theorem dX0_roundFigure_1 : decode cX0_roundFigure 1 = .ok (.iconst 1, 1) := dk_4 (dk_at dksX0_roundFigure_0 1 rfl rfl)
theorem dX0_roundFigure_2 : decode cX0_roundFigure 2 = .ok (.ldc_w 257, 3) := dk_19 1 1 (dk_at dksX0_roundFigure_0 2 rfl rfl)
theorem dX0_roundFigure_5 : decode cX0_roundFigure 5 = .ok (.invokestatic 113, 3) := dk_184 0 113 (dk_at dksX0_roundFigure_0 5 rfl rfl)
theorem dX0_roundFigure_8 : decode cX0_roundFigure 8 = .ok (.ifCond .ne 5, 3) := dk_154 0 5 (dk_at dksX0_roundFigure_0 8 rfl rfl)
theorem dX0_roundFigure_11 : decode cX0_roundFigure 11 = .ok (.iconst (-1), 1) := dk_2 (dk_at dksX0_roundFigure_0 11 rfl rfl)
theorem dX0_roundFigure_12 : decode cX0_roundFigure 12 = .ok (.ireturn, 1) := dk_172 (dk_at dksX0_roundFigure_0 12 rfl rfl)
theorem dX0_roundFigure_13 : decode cX0_roundFigure 13 = .ok (.iconst 1, 1) := dk_4 (dk_at dksX0_roundFigure_0 13 rfl rfl)
theorem dX0_roundFigure_14 : decode cX0_roundFigure 14 = .ok (.istore_n 2, 1) := dk_61 (dk_at dksX0_roundFigure_0 14 rfl rfl)
theorem dX0_roundFigure_15 : decode cX0_roundFigure 15 = .ok (.iconst 1, 1) := dk_4 (dk_at dksX0_roundFigure_0 15 rfl rfl)
theorem dX0_roundFigure_16 : decode cX0_roundFigure 16 = .ok (.istore_n 3, 1) := dk_62 (dk_at dksX0_roundFigure_0 16 rfl rfl)
theorem dX0_roundFigure_17 : decode cX0_roundFigure 17 = .ok (.iload_n 3, 1) := dk_29 (dk_at dksX0_roundFigure_0 17 rfl rfl)
theorem dX0_roundFigure_18 : decode cX0_roundFigure 18 = .ok (.ldc_w 258, 3) := dk_19 1 2 (dk_at dksX0_roundFigure_0 18 rfl rfl)
theorem dX0_roundFigure_21 : decode cX0_roundFigure 21 = .ok (.if_icmp .gt 62, 3) := dk_163 0 62 (dk_at dksX0_roundFigure_0 21 rfl rfl)
theorem dX0_roundFigure_24 : decode cX0_roundFigure 24 = .ok (.iconst 1, 1) := dk_4 (dk_at dksX0_roundFigure_1 0 rfl rfl)
theorem dX0_roundFigure_25 : decode cX0_roundFigure 25 = .ok (.istore 4, 2) := dk_54 4 (dk_at dksX0_roundFigure_1 1 rfl rfl)
theorem dX0_roundFigure_27 : decode cX0_roundFigure 27 = .ok (.iload 4, 2) := dk_21 4 (dk_at dksX0_roundFigure_1 3 rfl rfl)
theorem dX0_roundFigure_29 : decode cX0_roundFigure 29 = .ok (.iconst 5, 1) := dk_8 (dk_at dksX0_roundFigure_1 5 rfl rfl)
theorem dX0_roundFigure_30 : decode cX0_roundFigure 30 = .ok (.if_icmp .gt 45, 3) := dk_163 0 45 (dk_at dksX0_roundFigure_1 6 rfl rfl)
theorem dX0_roundFigure_33 : decode cX0_roundFigure 33 = .ok (.iload 4, 2) := dk_21 4 (dk_at dksX0_roundFigure_1 9 rfl rfl)
theorem dX0_roundFigure_35 : decode cX0_roundFigure 35 = .ok (.iload_n 3, 1) := dk_29 (dk_at dksX0_roundFigure_1 11 rfl rfl)
theorem dX0_roundFigure_36 : decode cX0_roundFigure 36 = .ok (.imul, 1) := dk_104 (dk_at dksX0_roundFigure_1 12 rfl rfl)
theorem dX0_roundFigure_37 : decode cX0_roundFigure 37 = .ok (.iload_n 1, 1) := dk_27 (dk_at dksX0_roundFigure_1 13 rfl rfl)
theorem dX0_roundFigure_38 : decode cX0_roundFigure 38 = .ok (.isub, 1) := dk_100 (dk_at dksX0_roundFigure_1 14 rfl rfl)
theorem dX0_roundFigure_39 : decode cX0_roundFigure 39 = .ok (.invokestatic 259, 3) := dk_184 1 3 (dk_at dksX0_roundFigure_1 15 rfl rfl)
theorem dX0_roundFigure_42 : decode cX0_roundFigure 42 = .ok (.iload_n 2, 1) := dk_28 (dk_at dksX0_roundFigure_1 18 rfl rfl)
theorem dX0_roundFigure_43 : decode cX0_roundFigure 43 = .ok (.iload_n 1, 1) := dk_27 (dk_at dksX0_roundFigure_1 19 rfl rfl)
theorem dX0_roundFigure_44 : decode cX0_roundFigure 44 = .ok (.isub, 1) := dk_100 (dk_at dksX0_roundFigure_1 20 rfl rfl)
theorem dX0_roundFigure_45 : decode cX0_roundFigure 45 = .ok (.invokestatic 259, 3) := dk_184 1 3 (dk_at dksX0_roundFigure_1 21 rfl rfl)
theorem dX0_roundFigure_48 : decode cX0_roundFigure 48 = .ok (.if_icmp .ge 8, 3) := dk_162 0 8 (dk_at dksX0_roundFigure_2 0 rfl rfl)
theorem dX0_roundFigure_51 : decode cX0_roundFigure 51 = .ok (.iload 4, 2) := dk_21 4 (dk_at dksX0_roundFigure_2 3 rfl rfl)
theorem dX0_roundFigure_53 : decode cX0_roundFigure 53 = .ok (.iload_n 3, 1) := dk_29 (dk_at dksX0_roundFigure_2 5 rfl rfl)
theorem dX0_roundFigure_54 : decode cX0_roundFigure 54 = .ok (.imul, 1) := dk_104 (dk_at dksX0_roundFigure_2 6 rfl rfl)
theorem dX0_roundFigure_55 : decode cX0_roundFigure 55 = .ok (.istore_n 2, 1) := dk_61 (dk_at dksX0_roundFigure_2 7 rfl rfl)
theorem dX0_roundFigure_56 : decode cX0_roundFigure 56 = .ok (.iload 4, 2) := dk_21 4 (dk_at dksX0_roundFigure_2 8 rfl rfl)
theorem dX0_roundFigure_58 : decode cX0_roundFigure 58 = .ok (.iload 4, 2) := dk_21 4 (dk_at dksX0_roundFigure_2 10 rfl rfl)
theorem dX0_roundFigure_60 : decode cX0_roundFigure 60 = .ok (.iconst 1, 1) := dk_4 (dk_at dksX0_roundFigure_2 12 rfl rfl)
theorem dX0_roundFigure_61 : decode cX0_roundFigure 61 = .ok (.if_icmp .ne 7, 3) := dk_160 0 7 (dk_at dksX0_roundFigure_2 13 rfl rfl)
theorem dX0_roundFigure_64 : decode cX0_roundFigure 64 = .ok (.iconst 1, 1) := dk_4 (dk_at dksX0_roundFigure_2 16 rfl rfl)
theorem dX0_roundFigure_65 : decode cX0_roundFigure 65 = .ok (.goto 4, 3) := dk_167 0 4 (dk_at dksX0_roundFigure_2 17 rfl rfl)
theorem dX0_roundFigure_68 : decode cX0_roundFigure 68 = .ok (.iconst 3, 1) := dk_6 (dk_at dksX0_roundFigure_2 20 rfl rfl)
theorem dX0_roundFigure_69 : decode cX0_roundFigure 69 = .ok (.iadd, 1) := dk_96 (dk_at dksX0_roundFigure_2 21 rfl rfl)
theorem dX0_roundFigure_70 : decode cX0_roundFigure 70 = .ok (.istore 4, 2) := dk_54 4 (dk_at dksX0_roundFigure_2 22 rfl rfl)
theorem dX0_roundFigure_72 : decode cX0_roundFigure 72 = .ok (.goto (-45), 3) := dk_167 255 211 (dk_at dksX0_roundFigure_3 0 rfl rfl)
theorem dX0_roundFigure_75 : decode cX0_roundFigure 75 = .ok (.iload_n 3, 1) := dk_29 (dk_at dksX0_roundFigure_3 3 rfl rfl)
theorem dX0_roundFigure_76 : decode cX0_roundFigure 76 = .ok (.bipush 10, 2) := dk_16 10 (dk_at dksX0_roundFigure_3 4 rfl rfl)
theorem dX0_roundFigure_78 : decode cX0_roundFigure 78 = .ok (.imul, 1) := dk_104 (dk_at dksX0_roundFigure_3 6 rfl rfl)
theorem dX0_roundFigure_79 : decode cX0_roundFigure 79 = .ok (.istore_n 3, 1) := dk_62 (dk_at dksX0_roundFigure_3 7 rfl rfl)
theorem dX0_roundFigure_80 : decode cX0_roundFigure 80 = .ok (.goto (-63), 3) := dk_167 255 193 (dk_at dksX0_roundFigure_3 8 rfl rfl)
theorem dX0_roundFigure_83 : decode cX0_roundFigure 83 = .ok (.iload_n 2, 1) := dk_28 (dk_at dksX0_roundFigure_3 11 rfl rfl)
theorem dX0_roundFigure_84 : decode cX0_roundFigure 84 = .ok (.ireturn, 1) := dk_172 (dk_at dksX0_roundFigure_3 12 rfl rfl)
abbrev cX0_ruin : ByteArray := prog_1_method_44_code
def yX0_ruin : MethodName := ⟨RX0, "ruin", "(III)I"⟩
def dkwX0_ruin_7 : List UInt8 := [21, 6, 172]
abbrev dktX0_ruin_7 : List UInt8 := dkwX0_ruin_7 ++ []
def dkwX0_ruin_6 : List UInt8 := [27, 120, 4, 100, 21, 4, 2, 130, 126, 54, 6, 29, 154, 0, 11, 21, 6, 184, 1, 13, 167, 0, 5]
abbrev dktX0_ruin_6 : List UInt8 := dkwX0_ruin_6 ++ dktX0_ruin_7
def dkwX0_ruin_5 : List UInt8 := [164, 0, 14, 21, 4, 4, 21, 6, 120, 2, 130, 126, 54, 4, 132, 6, 1, 167, 255, 193, 167, 255, 176, 4]
abbrev dktX0_ruin_5 : List UInt8 := dkwX0_ruin_5 ++ dktX0_ruin_6
def dkwX0_ruin_4 : List UInt8 := [182, 1, 6, 42, 27, 21, 6, 104, 21, 6, 96, 182, 0, 250, 42, 21, 6, 27, 21, 5, 182, 1, 10, 96]
abbrev dktX0_ruin_4 : List UInt8 := dkwX0_ruin_4 ++ dktX0_ruin_5
def dkwX0_ruin_3 : List UInt8 := [54, 6, 21, 6, 27, 162, 0, 63, 21, 5, 21, 6, 184, 0, 247, 153, 0, 47, 42, 21, 6, 27, 21, 5]
abbrev dktX0_ruin_3 : List UInt8 := dkwX0_ruin_3 ++ dktX0_ruin_4
def dkwX0_ruin_2 : List UInt8 := [100, 4, 28, 120, 2, 130, 126, 54, 4, 3, 54, 5, 21, 5, 21, 4, 159, 0, 79, 21, 4, 54, 5, 3]
abbrev dktX0_ruin_2 : List UInt8 := dkwX0_ruin_2 ++ dktX0_ruin_3
def dkwX0_ruin_1 : List UInt8 := [153, 0, 13, 27, 27, 104, 42, 180, 0, 106, 164, 0, 5, 2, 172, 42, 3, 181, 0, 106, 4, 27, 120, 4]
abbrev dktX0_ruin_1 : List UInt8 := dkwX0_ruin_1 ++ dktX0_ruin_2
def dkwX0_ruin_0 : List UInt8 := [27, 5, 16, 6, 184, 0, 113, 153, 0, 29, 28, 27, 184, 0, 12, 153, 0, 21, 29, 5, 184, 0, 12]
abbrev dktX0_ruin_0 : List UInt8 := dkwX0_ruin_0 ++ dktX0_ruin_1
theorem dksX0_ruin_0 : cX0_ruin.data.toList.drop 0 = dktX0_ruin_0 := by decide +kernel
theorem dksX0_ruin_1 : cX0_ruin.data.toList.drop 23 = dktX0_ruin_1 := dk_seg dksX0_ruin_0 23 rfl rfl
theorem dksX0_ruin_2 : cX0_ruin.data.toList.drop 47 = dktX0_ruin_2 := dk_seg dksX0_ruin_1 24 rfl rfl
theorem dksX0_ruin_3 : cX0_ruin.data.toList.drop 71 = dktX0_ruin_3 := dk_seg dksX0_ruin_2 24 rfl rfl
theorem dksX0_ruin_4 : cX0_ruin.data.toList.drop 95 = dktX0_ruin_4 := dk_seg dksX0_ruin_3 24 rfl rfl
theorem dksX0_ruin_5 : cX0_ruin.data.toList.drop 119 = dktX0_ruin_5 := dk_seg dksX0_ruin_4 24 rfl rfl
theorem dksX0_ruin_6 : cX0_ruin.data.toList.drop 143 = dktX0_ruin_6 := dk_seg dksX0_ruin_5 24 rfl rfl
theorem dksX0_ruin_7 : cX0_ruin.data.toList.drop 166 = dktX0_ruin_7 := dk_seg dksX0_ruin_6 23 rfl rfl
theorem dX0_ruin_0 : decode cX0_ruin 0 = .ok (.iload_n 1, 1) := dk_27 (dk_at dksX0_ruin_0 0 rfl rfl)
theorem dX0_ruin_1 : decode cX0_ruin 1 = .ok (.iconst 2, 1) := dk_5 (dk_at dksX0_ruin_0 1 rfl rfl)
theorem dX0_ruin_2 : decode cX0_ruin 2 = .ok (.bipush 6, 2) := dk_16 6 (dk_at dksX0_ruin_0 2 rfl rfl)
theorem dX0_ruin_4 : decode cX0_ruin 4 = .ok (.invokestatic 113, 3) := dk_184 0 113 (dk_at dksX0_ruin_0 4 rfl rfl)
theorem dX0_ruin_7 : decode cX0_ruin 7 = .ok (.ifCond .eq 29, 3) := dk_153 0 29 (dk_at dksX0_ruin_0 7 rfl rfl)
theorem dX0_ruin_10 : decode cX0_ruin 10 = .ok (.iload_n 2, 1) := dk_28 (dk_at dksX0_ruin_0 10 rfl rfl)
theorem dX0_ruin_11 : decode cX0_ruin 11 = .ok (.iload_n 1, 1) := dk_27 (dk_at dksX0_ruin_0 11 rfl rfl)
theorem dX0_ruin_12 : decode cX0_ruin 12 = .ok (.invokestatic 12, 3) := dk_184 0 12 (dk_at dksX0_ruin_0 12 rfl rfl)
theorem dX0_ruin_15 : decode cX0_ruin 15 = .ok (.ifCond .eq 21, 3) := dk_153 0 21 (dk_at dksX0_ruin_0 15 rfl rfl)
theorem dX0_ruin_18 : decode cX0_ruin 18 = .ok (.iload_n 3, 1) := dk_29 (dk_at dksX0_ruin_0 18 rfl rfl)
theorem dX0_ruin_19 : decode cX0_ruin 19 = .ok (.iconst 2, 1) := dk_5 (dk_at dksX0_ruin_0 19 rfl rfl)
theorem dX0_ruin_20 : decode cX0_ruin 20 = .ok (.invokestatic 12, 3) := dk_184 0 12 (dk_at dksX0_ruin_0 20 rfl rfl)
theorem dX0_ruin_23 : decode cX0_ruin 23 = .ok (.ifCond .eq 13, 3) := dk_153 0 13 (dk_at dksX0_ruin_1 0 rfl rfl)
theorem dX0_ruin_26 : decode cX0_ruin 26 = .ok (.iload_n 1, 1) := dk_27 (dk_at dksX0_ruin_1 3 rfl rfl)
theorem dX0_ruin_27 : decode cX0_ruin 27 = .ok (.iload_n 1, 1) := dk_27 (dk_at dksX0_ruin_1 4 rfl rfl)
theorem dX0_ruin_28 : decode cX0_ruin 28 = .ok (.imul, 1) := dk_104 (dk_at dksX0_ruin_1 5 rfl rfl)
theorem dX0_ruin_29 : decode cX0_ruin 29 = .ok (.aload_n 0, 1) := dk_42 (dk_at dksX0_ruin_1 6 rfl rfl)
theorem dX0_ruin_30 : decode cX0_ruin 30 = .ok (.getfield 106, 3) := dk_180 0 106 (dk_at dksX0_ruin_1 7 rfl rfl)
theorem dX0_ruin_33 : decode cX0_ruin 33 = .ok (.if_icmp .le 5, 3) := dk_164 0 5 (dk_at dksX0_ruin_1 10 rfl rfl)
theorem dX0_ruin_36 : decode cX0_ruin 36 = .ok (.iconst (-1), 1) := dk_2 (dk_at dksX0_ruin_1 13 rfl rfl)
theorem dX0_ruin_37 : decode cX0_ruin 37 = .ok (.ireturn, 1) := dk_172 (dk_at dksX0_ruin_1 14 rfl rfl)
theorem dX0_ruin_38 : decode cX0_ruin 38 = .ok (.aload_n 0, 1) := dk_42 (dk_at dksX0_ruin_1 15 rfl rfl)
theorem dX0_ruin_39 : decode cX0_ruin 39 = .ok (.iconst 0, 1) := dk_3 (dk_at dksX0_ruin_1 16 rfl rfl)
theorem dX0_ruin_40 : decode cX0_ruin 40 = .ok (.putfield 106, 3) := dk_181 0 106 (dk_at dksX0_ruin_1 17 rfl rfl)
theorem dX0_ruin_43 : decode cX0_ruin 43 = .ok (.iconst 1, 1) := dk_4 (dk_at dksX0_ruin_1 20 rfl rfl)
theorem dX0_ruin_44 : decode cX0_ruin 44 = .ok (.iload_n 1, 1) := dk_27 (dk_at dksX0_ruin_1 21 rfl rfl)
theorem dX0_ruin_45 : decode cX0_ruin 45 = .ok (.ishl, 1) := dk_120 (dk_at dksX0_ruin_1 22 rfl rfl)
theorem dX0_ruin_46 : decode cX0_ruin 46 = .ok (.iconst 1, 1) := dk_4 (dk_at dksX0_ruin_1 23 rfl rfl)
theorem dX0_ruin_47 : decode cX0_ruin 47 = .ok (.isub, 1) := dk_100 (dk_at dksX0_ruin_2 0 rfl rfl)
theorem dX0_ruin_48 : decode cX0_ruin 48 = .ok (.iconst 1, 1) := dk_4 (dk_at dksX0_ruin_2 1 rfl rfl)
theorem dX0_ruin_49 : decode cX0_ruin 49 = .ok (.iload_n 2, 1) := dk_28 (dk_at dksX0_ruin_2 2 rfl rfl)
theorem dX0_ruin_50 : decode cX0_ruin 50 = .ok (.ishl, 1) := dk_120 (dk_at dksX0_ruin_2 3 rfl rfl)
theorem dX0_ruin_51 : decode cX0_ruin 51 = .ok (.iconst (-1), 1) := dk_2 (dk_at dksX0_ruin_2 4 rfl rfl)
theorem dX0_ruin_52 : decode cX0_ruin 52 = .ok (.ixor, 1) := dk_130 (dk_at dksX0_ruin_2 5 rfl rfl)
theorem dX0_ruin_53 : decode cX0_ruin 53 = .ok (.iand, 1) := dk_126 (dk_at dksX0_ruin_2 6 rfl rfl)
theorem dX0_ruin_54 : decode cX0_ruin 54 = .ok (.istore 4, 2) := dk_54 4 (dk_at dksX0_ruin_2 7 rfl rfl)
theorem dX0_ruin_56 : decode cX0_ruin 56 = .ok (.iconst 0, 1) := dk_3 (dk_at dksX0_ruin_2 9 rfl rfl)
theorem dX0_ruin_57 : decode cX0_ruin 57 = .ok (.istore 5, 2) := dk_54 5 (dk_at dksX0_ruin_2 10 rfl rfl)
theorem dX0_ruin_59 : decode cX0_ruin 59 = .ok (.iload 5, 2) := dk_21 5 (dk_at dksX0_ruin_2 12 rfl rfl)
theorem dX0_ruin_61 : decode cX0_ruin 61 = .ok (.iload 4, 2) := dk_21 4 (dk_at dksX0_ruin_2 14 rfl rfl)
theorem dX0_ruin_63 : decode cX0_ruin 63 = .ok (.if_icmp .eq 79, 3) := dk_159 0 79 (dk_at dksX0_ruin_2 16 rfl rfl)
theorem dX0_ruin_66 : decode cX0_ruin 66 = .ok (.iload 4, 2) := dk_21 4 (dk_at dksX0_ruin_2 19 rfl rfl)
theorem dX0_ruin_68 : decode cX0_ruin 68 = .ok (.istore 5, 2) := dk_54 5 (dk_at dksX0_ruin_2 21 rfl rfl)
theorem dX0_ruin_70 : decode cX0_ruin 70 = .ok (.iconst 0, 1) := dk_3 (dk_at dksX0_ruin_2 23 rfl rfl)
theorem dX0_ruin_71 : decode cX0_ruin 71 = .ok (.istore 6, 2) := dk_54 6 (dk_at dksX0_ruin_3 0 rfl rfl)
theorem dX0_ruin_73 : decode cX0_ruin 73 = .ok (.iload 6, 2) := dk_21 6 (dk_at dksX0_ruin_3 2 rfl rfl)
theorem dX0_ruin_75 : decode cX0_ruin 75 = .ok (.iload_n 1, 1) := dk_27 (dk_at dksX0_ruin_3 4 rfl rfl)
theorem dX0_ruin_76 : decode cX0_ruin 76 = .ok (.if_icmp .ge 63, 3) := dk_162 0 63 (dk_at dksX0_ruin_3 5 rfl rfl)
theorem dX0_ruin_79 : decode cX0_ruin 79 = .ok (.iload 5, 2) := dk_21 5 (dk_at dksX0_ruin_3 8 rfl rfl)
theorem dX0_ruin_81 : decode cX0_ruin 81 = .ok (.iload 6, 2) := dk_21 6 (dk_at dksX0_ruin_3 10 rfl rfl)
theorem dX0_ruin_83 : decode cX0_ruin 83 = .ok (.invokestatic 247, 3) := dk_184 0 247 (dk_at dksX0_ruin_3 12 rfl rfl)
theorem dX0_ruin_86 : decode cX0_ruin 86 = .ok (.ifCond .eq 47, 3) := dk_153 0 47 (dk_at dksX0_ruin_3 15 rfl rfl)
theorem dX0_ruin_89 : decode cX0_ruin 89 = .ok (.aload_n 0, 1) := dk_42 (dk_at dksX0_ruin_3 18 rfl rfl)
theorem dX0_ruin_90 : decode cX0_ruin 90 = .ok (.iload 6, 2) := dk_21 6 (dk_at dksX0_ruin_3 19 rfl rfl)
theorem dX0_ruin_92 : decode cX0_ruin 92 = .ok (.iload_n 1, 1) := dk_27 (dk_at dksX0_ruin_3 21 rfl rfl)
theorem dX0_ruin_93 : decode cX0_ruin 93 = .ok (.iload 5, 2) := dk_21 5 (dk_at dksX0_ruin_3 22 rfl rfl)
theorem dX0_ruin_95 : decode cX0_ruin 95 = .ok (.invokevirtual 262, 3) := dk_182 1 6 (dk_at dksX0_ruin_4 0 rfl rfl)
theorem dX0_ruin_98 : decode cX0_ruin 98 = .ok (.aload_n 0, 1) := dk_42 (dk_at dksX0_ruin_4 3 rfl rfl)
theorem dX0_ruin_99 : decode cX0_ruin 99 = .ok (.iload_n 1, 1) := dk_27 (dk_at dksX0_ruin_4 4 rfl rfl)
theorem dX0_ruin_100 : decode cX0_ruin 100 = .ok (.iload 6, 2) := dk_21 6 (dk_at dksX0_ruin_4 5 rfl rfl)
theorem dX0_ruin_102 : decode cX0_ruin 102 = .ok (.imul, 1) := dk_104 (dk_at dksX0_ruin_4 7 rfl rfl)
theorem dX0_ruin_103 : decode cX0_ruin 103 = .ok (.iload 6, 2) := dk_21 6 (dk_at dksX0_ruin_4 8 rfl rfl)
theorem dX0_ruin_105 : decode cX0_ruin 105 = .ok (.iadd, 1) := dk_96 (dk_at dksX0_ruin_4 10 rfl rfl)
theorem dX0_ruin_106 : decode cX0_ruin 106 = .ok (.invokevirtual 250, 3) := dk_182 0 250 (dk_at dksX0_ruin_4 11 rfl rfl)
theorem dX0_ruin_109 : decode cX0_ruin 109 = .ok (.aload_n 0, 1) := dk_42 (dk_at dksX0_ruin_4 14 rfl rfl)
theorem dX0_ruin_110 : decode cX0_ruin 110 = .ok (.iload 6, 2) := dk_21 6 (dk_at dksX0_ruin_4 15 rfl rfl)
theorem dX0_ruin_112 : decode cX0_ruin 112 = .ok (.iload_n 1, 1) := dk_27 (dk_at dksX0_ruin_4 17 rfl rfl)
theorem dX0_ruin_113 : decode cX0_ruin 113 = .ok (.iload 5, 2) := dk_21 5 (dk_at dksX0_ruin_4 18 rfl rfl)
theorem dX0_ruin_115 : decode cX0_ruin 115 = .ok (.invokevirtual 266, 3) := dk_182 1 10 (dk_at dksX0_ruin_4 20 rfl rfl)
theorem dX0_ruin_118 : decode cX0_ruin 118 = .ok (.iadd, 1) := dk_96 (dk_at dksX0_ruin_4 23 rfl rfl)
theorem dX0_ruin_119 : decode cX0_ruin 119 = .ok (.if_icmp .le 14, 3) := dk_164 0 14 (dk_at dksX0_ruin_5 0 rfl rfl)
theorem dX0_ruin_122 : decode cX0_ruin 122 = .ok (.iload 4, 2) := dk_21 4 (dk_at dksX0_ruin_5 3 rfl rfl)
theorem dX0_ruin_124 : decode cX0_ruin 124 = .ok (.iconst 1, 1) := dk_4 (dk_at dksX0_ruin_5 5 rfl rfl)
theorem dX0_ruin_125 : decode cX0_ruin 125 = .ok (.iload 6, 2) := dk_21 6 (dk_at dksX0_ruin_5 6 rfl rfl)
theorem dX0_ruin_127 : decode cX0_ruin 127 = .ok (.ishl, 1) := dk_120 (dk_at dksX0_ruin_5 8 rfl rfl)
theorem dX0_ruin_128 : decode cX0_ruin 128 = .ok (.iconst (-1), 1) := dk_2 (dk_at dksX0_ruin_5 9 rfl rfl)
theorem dX0_ruin_129 : decode cX0_ruin 129 = .ok (.ixor, 1) := dk_130 (dk_at dksX0_ruin_5 10 rfl rfl)
theorem dX0_ruin_130 : decode cX0_ruin 130 = .ok (.iand, 1) := dk_126 (dk_at dksX0_ruin_5 11 rfl rfl)
theorem dX0_ruin_131 : decode cX0_ruin 131 = .ok (.istore 4, 2) := dk_54 4 (dk_at dksX0_ruin_5 12 rfl rfl)
theorem dX0_ruin_133 : decode cX0_ruin 133 = .ok (.iinc 6 1, 3) := dk_132 6 1 (dk_at dksX0_ruin_5 14 rfl rfl)
theorem dX0_ruin_136 : decode cX0_ruin 136 = .ok (.goto (-63), 3) := dk_167 255 193 (dk_at dksX0_ruin_5 17 rfl rfl)
theorem dX0_ruin_139 : decode cX0_ruin 139 = .ok (.goto (-80), 3) := dk_167 255 176 (dk_at dksX0_ruin_5 20 rfl rfl)
theorem dX0_ruin_142 : decode cX0_ruin 142 = .ok (.iconst 1, 1) := dk_4 (dk_at dksX0_ruin_5 23 rfl rfl)
theorem dX0_ruin_143 : decode cX0_ruin 143 = .ok (.iload_n 1, 1) := dk_27 (dk_at dksX0_ruin_6 0 rfl rfl)
theorem dX0_ruin_144 : decode cX0_ruin 144 = .ok (.ishl, 1) := dk_120 (dk_at dksX0_ruin_6 1 rfl rfl)
theorem dX0_ruin_145 : decode cX0_ruin 145 = .ok (.iconst 1, 1) := dk_4 (dk_at dksX0_ruin_6 2 rfl rfl)
theorem dX0_ruin_146 : decode cX0_ruin 146 = .ok (.isub, 1) := dk_100 (dk_at dksX0_ruin_6 3 rfl rfl)
theorem dX0_ruin_147 : decode cX0_ruin 147 = .ok (.iload 4, 2) := dk_21 4 (dk_at dksX0_ruin_6 4 rfl rfl)
theorem dX0_ruin_149 : decode cX0_ruin 149 = .ok (.iconst (-1), 1) := dk_2 (dk_at dksX0_ruin_6 6 rfl rfl)
theorem dX0_ruin_150 : decode cX0_ruin 150 = .ok (.ixor, 1) := dk_130 (dk_at dksX0_ruin_6 7 rfl rfl)
theorem dX0_ruin_151 : decode cX0_ruin 151 = .ok (.iand, 1) := dk_126 (dk_at dksX0_ruin_6 8 rfl rfl)
theorem dX0_ruin_152 : decode cX0_ruin 152 = .ok (.istore 6, 2) := dk_54 6 (dk_at dksX0_ruin_6 9 rfl rfl)
theorem dX0_ruin_154 : decode cX0_ruin 154 = .ok (.iload_n 3, 1) := dk_29 (dk_at dksX0_ruin_6 11 rfl rfl)
theorem dX0_ruin_155 : decode cX0_ruin 155 = .ok (.ifCond .ne 11, 3) := dk_154 0 11 (dk_at dksX0_ruin_6 12 rfl rfl)
theorem dX0_ruin_158 : decode cX0_ruin 158 = .ok (.iload 6, 2) := dk_21 6 (dk_at dksX0_ruin_6 15 rfl rfl)
theorem dX0_ruin_160 : decode cX0_ruin 160 = .ok (.invokestatic 269, 3) := dk_184 1 13 (dk_at dksX0_ruin_6 17 rfl rfl)
theorem dX0_ruin_163 : decode cX0_ruin 163 = .ok (.goto 5, 3) := dk_167 0 5 (dk_at dksX0_ruin_6 20 rfl rfl)
theorem dX0_ruin_166 : decode cX0_ruin 166 = .ok (.iload 6, 2) := dk_21 6 (dk_at dksX0_ruin_7 0 rfl rfl)
theorem dX0_ruin_168 : decode cX0_ruin 168 = .ok (.ireturn, 1) := dk_172 (dk_at dksX0_ruin_7 2 rfl rfl)
abbrev cX0_owedBy : ByteArray := prog_1_method_42_code
def yX0_owedBy : MethodName := ⟨RX0, "owedBy", "(III)I"⟩
def dkwX0_owedBy_2 : List UInt8 := [132, 5, 1, 167, 255, 213, 21, 4, 172]
abbrev dktX0_owedBy_2 : List UInt8 := dkwX0_owedBy_2 ++ []
def dkwX0_owedBy_1 : List UInt8 := [184, 0, 247, 153, 0, 16, 42, 28, 27, 104, 21, 5, 96, 182, 0, 250, 167, 0, 4, 3, 96, 54, 4]
abbrev dktX0_owedBy_1 : List UInt8 := dkwX0_owedBy_1 ++ dktX0_owedBy_2
def dkwX0_owedBy_0 : List UInt8 := [3, 54, 4, 3, 54, 5, 21, 5, 28, 162, 0, 43, 21, 4, 21, 5, 27, 159, 0, 25, 29, 21, 5]
abbrev dktX0_owedBy_0 : List UInt8 := dkwX0_owedBy_0 ++ dktX0_owedBy_1
theorem dksX0_owedBy_0 : cX0_owedBy.data.toList.drop 0 = dktX0_owedBy_0 := by decide +kernel
theorem dksX0_owedBy_1 : cX0_owedBy.data.toList.drop 23 = dktX0_owedBy_1 := dk_seg dksX0_owedBy_0 23 rfl rfl
theorem dksX0_owedBy_2 : cX0_owedBy.data.toList.drop 46 = dktX0_owedBy_2 := dk_seg dksX0_owedBy_1 23 rfl rfl
theorem dX0_owedBy_0 : decode cX0_owedBy 0 = .ok (.iconst 0, 1) := dk_3 (dk_at dksX0_owedBy_0 0 rfl rfl)
theorem dX0_owedBy_1 : decode cX0_owedBy 1 = .ok (.istore 4, 2) := dk_54 4 (dk_at dksX0_owedBy_0 1 rfl rfl)
theorem dX0_owedBy_3 : decode cX0_owedBy 3 = .ok (.iconst 0, 1) := dk_3 (dk_at dksX0_owedBy_0 3 rfl rfl)
theorem dX0_owedBy_4 : decode cX0_owedBy 4 = .ok (.istore 5, 2) := dk_54 5 (dk_at dksX0_owedBy_0 4 rfl rfl)
theorem dX0_owedBy_6 : decode cX0_owedBy 6 = .ok (.iload 5, 2) := dk_21 5 (dk_at dksX0_owedBy_0 6 rfl rfl)
theorem dX0_owedBy_8 : decode cX0_owedBy 8 = .ok (.iload_n 2, 1) := dk_28 (dk_at dksX0_owedBy_0 8 rfl rfl)
theorem dX0_owedBy_9 : decode cX0_owedBy 9 = .ok (.if_icmp .ge 43, 3) := dk_162 0 43 (dk_at dksX0_owedBy_0 9 rfl rfl)
theorem dX0_owedBy_12 : decode cX0_owedBy 12 = .ok (.iload 4, 2) := dk_21 4 (dk_at dksX0_owedBy_0 12 rfl rfl)
theorem dX0_owedBy_14 : decode cX0_owedBy 14 = .ok (.iload 5, 2) := dk_21 5 (dk_at dksX0_owedBy_0 14 rfl rfl)
theorem dX0_owedBy_16 : decode cX0_owedBy 16 = .ok (.iload_n 1, 1) := dk_27 (dk_at dksX0_owedBy_0 16 rfl rfl)
theorem dX0_owedBy_17 : decode cX0_owedBy 17 = .ok (.if_icmp .eq 25, 3) := dk_159 0 25 (dk_at dksX0_owedBy_0 17 rfl rfl)
theorem dX0_owedBy_20 : decode cX0_owedBy 20 = .ok (.iload_n 3, 1) := dk_29 (dk_at dksX0_owedBy_0 20 rfl rfl)
theorem dX0_owedBy_21 : decode cX0_owedBy 21 = .ok (.iload 5, 2) := dk_21 5 (dk_at dksX0_owedBy_0 21 rfl rfl)
theorem dX0_owedBy_23 : decode cX0_owedBy 23 = .ok (.invokestatic 247, 3) := dk_184 0 247 (dk_at dksX0_owedBy_1 0 rfl rfl)
theorem dX0_owedBy_26 : decode cX0_owedBy 26 = .ok (.ifCond .eq 16, 3) := dk_153 0 16 (dk_at dksX0_owedBy_1 3 rfl rfl)
theorem dX0_owedBy_29 : decode cX0_owedBy 29 = .ok (.aload_n 0, 1) := dk_42 (dk_at dksX0_owedBy_1 6 rfl rfl)
theorem dX0_owedBy_30 : decode cX0_owedBy 30 = .ok (.iload_n 2, 1) := dk_28 (dk_at dksX0_owedBy_1 7 rfl rfl)
theorem dX0_owedBy_31 : decode cX0_owedBy 31 = .ok (.iload_n 1, 1) := dk_27 (dk_at dksX0_owedBy_1 8 rfl rfl)
theorem dX0_owedBy_32 : decode cX0_owedBy 32 = .ok (.imul, 1) := dk_104 (dk_at dksX0_owedBy_1 9 rfl rfl)
theorem dX0_owedBy_33 : decode cX0_owedBy 33 = .ok (.iload 5, 2) := dk_21 5 (dk_at dksX0_owedBy_1 10 rfl rfl)
theorem dX0_owedBy_35 : decode cX0_owedBy 35 = .ok (.iadd, 1) := dk_96 (dk_at dksX0_owedBy_1 12 rfl rfl)
theorem dX0_owedBy_36 : decode cX0_owedBy 36 = .ok (.invokevirtual 250, 3) := dk_182 0 250 (dk_at dksX0_owedBy_1 13 rfl rfl)
theorem dX0_owedBy_39 : decode cX0_owedBy 39 = .ok (.goto 4, 3) := dk_167 0 4 (dk_at dksX0_owedBy_1 16 rfl rfl)
theorem dX0_owedBy_42 : decode cX0_owedBy 42 = .ok (.iconst 0, 1) := dk_3 (dk_at dksX0_owedBy_1 19 rfl rfl)
theorem dX0_owedBy_43 : decode cX0_owedBy 43 = .ok (.iadd, 1) := dk_96 (dk_at dksX0_owedBy_1 20 rfl rfl)
theorem dX0_owedBy_44 : decode cX0_owedBy 44 = .ok (.istore 4, 2) := dk_54 4 (dk_at dksX0_owedBy_1 21 rfl rfl)
theorem dX0_owedBy_46 : decode cX0_owedBy 46 = .ok (.iinc 5 1, 3) := dk_132 5 1 (dk_at dksX0_owedBy_2 0 rfl rfl)
theorem dX0_owedBy_49 : decode cX0_owedBy 49 = .ok (.goto (-43), 3) := dk_167 255 213 (dk_at dksX0_owedBy_2 3 rfl rfl)
theorem dX0_owedBy_52 : decode cX0_owedBy 52 = .ok (.iload 4, 2) := dk_21 4 (dk_at dksX0_owedBy_2 6 rfl rfl)
theorem dX0_owedBy_54 : decode cX0_owedBy 54 = .ok (.ireturn, 1) := dk_172 (dk_at dksX0_owedBy_2 8 rfl rfl)
abbrev cX0_owedTo : ByteArray := prog_1_method_43_code
def yX0_owedTo : MethodName := ⟨RX0, "owedTo", "(III)I"⟩
def dkwX0_owedTo_2 : List UInt8 := [132, 5, 1, 167, 255, 213, 21, 4, 172]
abbrev dktX0_owedTo_2 : List UInt8 := dkwX0_owedTo_2 ++ []
def dkwX0_owedTo_1 : List UInt8 := [184, 0, 247, 153, 0, 16, 42, 28, 21, 5, 104, 27, 96, 182, 0, 250, 167, 0, 4, 3, 96, 54, 4]
abbrev dktX0_owedTo_1 : List UInt8 := dkwX0_owedTo_1 ++ dktX0_owedTo_2
def dkwX0_owedTo_0 : List UInt8 := [3, 54, 4, 3, 54, 5, 21, 5, 28, 162, 0, 43, 21, 4, 21, 5, 27, 159, 0, 25, 29, 21, 5]
abbrev dktX0_owedTo_0 : List UInt8 := dkwX0_owedTo_0 ++ dktX0_owedTo_1
theorem dksX0_owedTo_0 : cX0_owedTo.data.toList.drop 0 = dktX0_owedTo_0 := by decide +kernel
theorem dksX0_owedTo_1 : cX0_owedTo.data.toList.drop 23 = dktX0_owedTo_1 := dk_seg dksX0_owedTo_0 23 rfl rfl
theorem dksX0_owedTo_2 : cX0_owedTo.data.toList.drop 46 = dktX0_owedTo_2 := dk_seg dksX0_owedTo_1 23 rfl rfl
theorem dX0_owedTo_0 : decode cX0_owedTo 0 = .ok (.iconst 0, 1) := dk_3 (dk_at dksX0_owedTo_0 0 rfl rfl)
theorem dX0_owedTo_1 : decode cX0_owedTo 1 = .ok (.istore 4, 2) := dk_54 4 (dk_at dksX0_owedTo_0 1 rfl rfl)
theorem dX0_owedTo_3 : decode cX0_owedTo 3 = .ok (.iconst 0, 1) := dk_3 (dk_at dksX0_owedTo_0 3 rfl rfl)
theorem dX0_owedTo_4 : decode cX0_owedTo 4 = .ok (.istore 5, 2) := dk_54 5 (dk_at dksX0_owedTo_0 4 rfl rfl)
theorem dX0_owedTo_6 : decode cX0_owedTo 6 = .ok (.iload 5, 2) := dk_21 5 (dk_at dksX0_owedTo_0 6 rfl rfl)
theorem dX0_owedTo_8 : decode cX0_owedTo 8 = .ok (.iload_n 2, 1) := dk_28 (dk_at dksX0_owedTo_0 8 rfl rfl)
theorem dX0_owedTo_9 : decode cX0_owedTo 9 = .ok (.if_icmp .ge 43, 3) := dk_162 0 43 (dk_at dksX0_owedTo_0 9 rfl rfl)
theorem dX0_owedTo_12 : decode cX0_owedTo 12 = .ok (.iload 4, 2) := dk_21 4 (dk_at dksX0_owedTo_0 12 rfl rfl)
theorem dX0_owedTo_14 : decode cX0_owedTo 14 = .ok (.iload 5, 2) := dk_21 5 (dk_at dksX0_owedTo_0 14 rfl rfl)
theorem dX0_owedTo_16 : decode cX0_owedTo 16 = .ok (.iload_n 1, 1) := dk_27 (dk_at dksX0_owedTo_0 16 rfl rfl)
theorem dX0_owedTo_17 : decode cX0_owedTo 17 = .ok (.if_icmp .eq 25, 3) := dk_159 0 25 (dk_at dksX0_owedTo_0 17 rfl rfl)
theorem dX0_owedTo_20 : decode cX0_owedTo 20 = .ok (.iload_n 3, 1) := dk_29 (dk_at dksX0_owedTo_0 20 rfl rfl)
theorem dX0_owedTo_21 : decode cX0_owedTo 21 = .ok (.iload 5, 2) := dk_21 5 (dk_at dksX0_owedTo_0 21 rfl rfl)
theorem dX0_owedTo_23 : decode cX0_owedTo 23 = .ok (.invokestatic 247, 3) := dk_184 0 247 (dk_at dksX0_owedTo_1 0 rfl rfl)
theorem dX0_owedTo_26 : decode cX0_owedTo 26 = .ok (.ifCond .eq 16, 3) := dk_153 0 16 (dk_at dksX0_owedTo_1 3 rfl rfl)
theorem dX0_owedTo_29 : decode cX0_owedTo 29 = .ok (.aload_n 0, 1) := dk_42 (dk_at dksX0_owedTo_1 6 rfl rfl)
theorem dX0_owedTo_30 : decode cX0_owedTo 30 = .ok (.iload_n 2, 1) := dk_28 (dk_at dksX0_owedTo_1 7 rfl rfl)
theorem dX0_owedTo_31 : decode cX0_owedTo 31 = .ok (.iload 5, 2) := dk_21 5 (dk_at dksX0_owedTo_1 8 rfl rfl)
theorem dX0_owedTo_33 : decode cX0_owedTo 33 = .ok (.imul, 1) := dk_104 (dk_at dksX0_owedTo_1 10 rfl rfl)
theorem dX0_owedTo_34 : decode cX0_owedTo 34 = .ok (.iload_n 1, 1) := dk_27 (dk_at dksX0_owedTo_1 11 rfl rfl)
theorem dX0_owedTo_35 : decode cX0_owedTo 35 = .ok (.iadd, 1) := dk_96 (dk_at dksX0_owedTo_1 12 rfl rfl)
theorem dX0_owedTo_36 : decode cX0_owedTo 36 = .ok (.invokevirtual 250, 3) := dk_182 0 250 (dk_at dksX0_owedTo_1 13 rfl rfl)
theorem dX0_owedTo_39 : decode cX0_owedTo 39 = .ok (.goto 4, 3) := dk_167 0 4 (dk_at dksX0_owedTo_1 16 rfl rfl)
theorem dX0_owedTo_42 : decode cX0_owedTo 42 = .ok (.iconst 0, 1) := dk_3 (dk_at dksX0_owedTo_1 19 rfl rfl)
theorem dX0_owedTo_43 : decode cX0_owedTo 43 = .ok (.iadd, 1) := dk_96 (dk_at dksX0_owedTo_1 20 rfl rfl)
theorem dX0_owedTo_44 : decode cX0_owedTo 44 = .ok (.istore 4, 2) := dk_54 4 (dk_at dksX0_owedTo_1 21 rfl rfl)
theorem dX0_owedTo_46 : decode cX0_owedTo 46 = .ok (.iinc 5 1, 3) := dk_132 5 1 (dk_at dksX0_owedTo_2 0 rfl rfl)
theorem dX0_owedTo_49 : decode cX0_owedTo 49 = .ok (.goto (-43), 3) := dk_167 255 213 (dk_at dksX0_owedTo_2 3 rfl rfl)
theorem dX0_owedTo_52 : decode cX0_owedTo 52 = .ok (.iload 4, 2) := dk_21 4 (dk_at dksX0_owedTo_2 6 rfl rfl)
theorem dX0_owedTo_54 : decode cX0_owedTo 54 = .ok (.ireturn, 1) := dk_172 (dk_at dksX0_owedTo_2 8 rfl rfl)
abbrev cX0_carried : ByteArray := prog_1_method_47_code
def yX0_carried : MethodName := ⟨RX0, "carried", "(I)I"⟩
def dkwX0_carried_4 : List UInt8 := [184, 0, 7, 61, 132, 3, 1, 167, 255, 224, 28, 172]
abbrev dktX0_carried_4 : List UInt8 := dkwX0_carried_4 ++ []
def dkwX0_carried_3 : List UInt8 := [120, 162, 0, 31, 42, 29, 27, 182, 1, 21, 153, 0, 16, 28, 42, 29, 27, 6, 4, 182, 0, 253]
abbrev dktX0_carried_3 : List UInt8 := dkwX0_carried_3 ++ dktX0_carried_4
def dkwX0_carried_2 : List UInt8 := [154, 0, 6, 16, 254, 172, 132, 2, 1, 167, 255, 229, 42, 27, 182, 1, 18, 3, 61, 3, 62, 29, 4, 27]
abbrev dktX0_carried_2 : List UInt8 := dkwX0_carried_2 ++ dktX0_carried_3
def dkwX0_carried_1 : List UInt8 := [181, 0, 106, 3, 61, 28, 27, 162, 0, 28, 42, 6, 28, 104, 182, 0, 250, 4, 16, 60, 184, 0, 113]
abbrev dktX0_carried_1 : List UInt8 := dkwX0_carried_1 ++ dktX0_carried_2
def dkwX0_carried_0 : List UInt8 := [27, 4, 16, 10, 184, 0, 113, 153, 0, 13, 6, 27, 104, 42, 180, 0, 106, 164, 0, 5, 2, 172, 42, 3]
abbrev dktX0_carried_0 : List UInt8 := dkwX0_carried_0 ++ dktX0_carried_1
theorem dksX0_carried_0 : cX0_carried.data.toList.drop 0 = dktX0_carried_0 := by decide +kernel
theorem dksX0_carried_1 : cX0_carried.data.toList.drop 24 = dktX0_carried_1 := dk_seg dksX0_carried_0 24 rfl rfl
theorem dksX0_carried_2 : cX0_carried.data.toList.drop 47 = dktX0_carried_2 := dk_seg dksX0_carried_1 23 rfl rfl
theorem dksX0_carried_3 : cX0_carried.data.toList.drop 71 = dktX0_carried_3 := dk_seg dksX0_carried_2 24 rfl rfl
theorem dksX0_carried_4 : cX0_carried.data.toList.drop 93 = dktX0_carried_4 := dk_seg dksX0_carried_3 22 rfl rfl
theorem dX0_carried_0 : decode cX0_carried 0 = .ok (.iload_n 1, 1) := dk_27 (dk_at dksX0_carried_0 0 rfl rfl)
theorem dX0_carried_1 : decode cX0_carried 1 = .ok (.iconst 1, 1) := dk_4 (dk_at dksX0_carried_0 1 rfl rfl)
theorem dX0_carried_2 : decode cX0_carried 2 = .ok (.bipush 10, 2) := dk_16 10 (dk_at dksX0_carried_0 2 rfl rfl)
theorem dX0_carried_4 : decode cX0_carried 4 = .ok (.invokestatic 113, 3) := dk_184 0 113 (dk_at dksX0_carried_0 4 rfl rfl)
theorem dX0_carried_7 : decode cX0_carried 7 = .ok (.ifCond .eq 13, 3) := dk_153 0 13 (dk_at dksX0_carried_0 7 rfl rfl)
theorem dX0_carried_10 : decode cX0_carried 10 = .ok (.iconst 3, 1) := dk_6 (dk_at dksX0_carried_0 10 rfl rfl)
theorem dX0_carried_11 : decode cX0_carried 11 = .ok (.iload_n 1, 1) := dk_27 (dk_at dksX0_carried_0 11 rfl rfl)
theorem dX0_carried_12 : decode cX0_carried 12 = .ok (.imul, 1) := dk_104 (dk_at dksX0_carried_0 12 rfl rfl)
theorem dX0_carried_13 : decode cX0_carried 13 = .ok (.aload_n 0, 1) := dk_42 (dk_at dksX0_carried_0 13 rfl rfl)
theorem dX0_carried_14 : decode cX0_carried 14 = .ok (.getfield 106, 3) := dk_180 0 106 (dk_at dksX0_carried_0 14 rfl rfl)
theorem dX0_carried_17 : decode cX0_carried 17 = .ok (.if_icmp .le 5, 3) := dk_164 0 5 (dk_at dksX0_carried_0 17 rfl rfl)
theorem dX0_carried_20 : decode cX0_carried 20 = .ok (.iconst (-1), 1) := dk_2 (dk_at dksX0_carried_0 20 rfl rfl)
theorem dX0_carried_21 : decode cX0_carried 21 = .ok (.ireturn, 1) := dk_172 (dk_at dksX0_carried_0 21 rfl rfl)
theorem dX0_carried_22 : decode cX0_carried 22 = .ok (.aload_n 0, 1) := dk_42 (dk_at dksX0_carried_0 22 rfl rfl)
theorem dX0_carried_23 : decode cX0_carried 23 = .ok (.iconst 0, 1) := dk_3 (dk_at dksX0_carried_0 23 rfl rfl)
theorem dX0_carried_24 : decode cX0_carried 24 = .ok (.putfield 106, 3) := dk_181 0 106 (dk_at dksX0_carried_1 0 rfl rfl)
theorem dX0_carried_27 : decode cX0_carried 27 = .ok (.iconst 0, 1) := dk_3 (dk_at dksX0_carried_1 3 rfl rfl)
theorem dX0_carried_28 : decode cX0_carried 28 = .ok (.istore_n 2, 1) := dk_61 (dk_at dksX0_carried_1 4 rfl rfl)
theorem dX0_carried_29 : decode cX0_carried 29 = .ok (.iload_n 2, 1) := dk_28 (dk_at dksX0_carried_1 5 rfl rfl)
theorem dX0_carried_30 : decode cX0_carried 30 = .ok (.iload_n 1, 1) := dk_27 (dk_at dksX0_carried_1 6 rfl rfl)
theorem dX0_carried_31 : decode cX0_carried 31 = .ok (.if_icmp .ge 28, 3) := dk_162 0 28 (dk_at dksX0_carried_1 7 rfl rfl)
theorem dX0_carried_34 : decode cX0_carried 34 = .ok (.aload_n 0, 1) := dk_42 (dk_at dksX0_carried_1 10 rfl rfl)
theorem dX0_carried_35 : decode cX0_carried 35 = .ok (.iconst 3, 1) := dk_6 (dk_at dksX0_carried_1 11 rfl rfl)
theorem dX0_carried_36 : decode cX0_carried 36 = .ok (.iload_n 2, 1) := dk_28 (dk_at dksX0_carried_1 12 rfl rfl)
theorem dX0_carried_37 : decode cX0_carried 37 = .ok (.imul, 1) := dk_104 (dk_at dksX0_carried_1 13 rfl rfl)
theorem dX0_carried_38 : decode cX0_carried 38 = .ok (.invokevirtual 250, 3) := dk_182 0 250 (dk_at dksX0_carried_1 14 rfl rfl)
theorem dX0_carried_41 : decode cX0_carried 41 = .ok (.iconst 1, 1) := dk_4 (dk_at dksX0_carried_1 17 rfl rfl)
theorem dX0_carried_42 : decode cX0_carried 42 = .ok (.bipush 60, 2) := dk_16 60 (dk_at dksX0_carried_1 18 rfl rfl)
theorem dX0_carried_44 : decode cX0_carried 44 = .ok (.invokestatic 113, 3) := dk_184 0 113 (dk_at dksX0_carried_1 20 rfl rfl)
theorem dX0_carried_47 : decode cX0_carried 47 = .ok (.ifCond .ne 6, 3) := dk_154 0 6 (dk_at dksX0_carried_2 0 rfl rfl)
theorem dX0_carried_50 : decode cX0_carried 50 = .ok (.bipush (-2), 2) := dk_16 254 (dk_at dksX0_carried_2 3 rfl rfl)
theorem dX0_carried_52 : decode cX0_carried 52 = .ok (.ireturn, 1) := dk_172 (dk_at dksX0_carried_2 5 rfl rfl)
theorem dX0_carried_53 : decode cX0_carried 53 = .ok (.iinc 2 1, 3) := dk_132 2 1 (dk_at dksX0_carried_2 6 rfl rfl)
theorem dX0_carried_56 : decode cX0_carried 56 = .ok (.goto (-27), 3) := dk_167 255 229 (dk_at dksX0_carried_2 9 rfl rfl)
theorem dX0_carried_59 : decode cX0_carried 59 = .ok (.aload_n 0, 1) := dk_42 (dk_at dksX0_carried_2 12 rfl rfl)
theorem dX0_carried_60 : decode cX0_carried 60 = .ok (.iload_n 1, 1) := dk_27 (dk_at dksX0_carried_2 13 rfl rfl)
theorem dX0_carried_61 : decode cX0_carried 61 = .ok (.invokevirtual 274, 3) := dk_182 1 18 (dk_at dksX0_carried_2 14 rfl rfl)
theorem dX0_carried_64 : decode cX0_carried 64 = .ok (.iconst 0, 1) := dk_3 (dk_at dksX0_carried_2 17 rfl rfl)
theorem dX0_carried_65 : decode cX0_carried 65 = .ok (.istore_n 2, 1) := dk_61 (dk_at dksX0_carried_2 18 rfl rfl)
theorem dX0_carried_66 : decode cX0_carried 66 = .ok (.iconst 0, 1) := dk_3 (dk_at dksX0_carried_2 19 rfl rfl)
theorem dX0_carried_67 : decode cX0_carried 67 = .ok (.istore_n 3, 1) := dk_62 (dk_at dksX0_carried_2 20 rfl rfl)
theorem dX0_carried_68 : decode cX0_carried 68 = .ok (.iload_n 3, 1) := dk_29 (dk_at dksX0_carried_2 21 rfl rfl)
theorem dX0_carried_69 : decode cX0_carried 69 = .ok (.iconst 1, 1) := dk_4 (dk_at dksX0_carried_2 22 rfl rfl)
theorem dX0_carried_70 : decode cX0_carried 70 = .ok (.iload_n 1, 1) := dk_27 (dk_at dksX0_carried_2 23 rfl rfl)
theorem dX0_carried_71 : decode cX0_carried 71 = .ok (.ishl, 1) := dk_120 (dk_at dksX0_carried_3 0 rfl rfl)
theorem dX0_carried_72 : decode cX0_carried 72 = .ok (.if_icmp .ge 31, 3) := dk_162 0 31 (dk_at dksX0_carried_3 1 rfl rfl)
theorem dX0_carried_75 : decode cX0_carried 75 = .ok (.aload_n 0, 1) := dk_42 (dk_at dksX0_carried_3 4 rfl rfl)
theorem dX0_carried_76 : decode cX0_carried 76 = .ok (.iload_n 3, 1) := dk_29 (dk_at dksX0_carried_3 5 rfl rfl)
theorem dX0_carried_77 : decode cX0_carried 77 = .ok (.iload_n 1, 1) := dk_27 (dk_at dksX0_carried_3 6 rfl rfl)
theorem dX0_carried_78 : decode cX0_carried 78 = .ok (.invokevirtual 277, 3) := dk_182 1 21 (dk_at dksX0_carried_3 7 rfl rfl)
theorem dX0_carried_81 : decode cX0_carried 81 = .ok (.ifCond .eq 16, 3) := dk_153 0 16 (dk_at dksX0_carried_3 10 rfl rfl)
theorem dX0_carried_84 : decode cX0_carried 84 = .ok (.iload_n 2, 1) := dk_28 (dk_at dksX0_carried_3 13 rfl rfl)
theorem dX0_carried_85 : decode cX0_carried 85 = .ok (.aload_n 0, 1) := dk_42 (dk_at dksX0_carried_3 14 rfl rfl)
theorem dX0_carried_86 : decode cX0_carried 86 = .ok (.iload_n 3, 1) := dk_29 (dk_at dksX0_carried_3 15 rfl rfl)
theorem dX0_carried_87 : decode cX0_carried 87 = .ok (.iload_n 1, 1) := dk_27 (dk_at dksX0_carried_3 16 rfl rfl)
theorem dX0_carried_88 : decode cX0_carried 88 = .ok (.iconst 3, 1) := dk_6 (dk_at dksX0_carried_3 17 rfl rfl)
theorem dX0_carried_89 : decode cX0_carried 89 = .ok (.iconst 1, 1) := dk_4 (dk_at dksX0_carried_3 18 rfl rfl)
theorem dX0_carried_90 : decode cX0_carried 90 = .ok (.invokevirtual 253, 3) := dk_182 0 253 (dk_at dksX0_carried_3 19 rfl rfl)
theorem dX0_carried_93 : decode cX0_carried 93 = .ok (.invokestatic 7, 3) := dk_184 0 7 (dk_at dksX0_carried_4 0 rfl rfl)
theorem dX0_carried_96 : decode cX0_carried 96 = .ok (.istore_n 2, 1) := dk_61 (dk_at dksX0_carried_4 3 rfl rfl)
theorem dX0_carried_97 : decode cX0_carried 97 = .ok (.iinc 3 1, 3) := dk_132 3 1 (dk_at dksX0_carried_4 4 rfl rfl)
theorem dX0_carried_100 : decode cX0_carried 100 = .ok (.goto (-32), 3) := dk_167 255 224 (dk_at dksX0_carried_4 7 rfl rfl)
theorem dX0_carried_103 : decode cX0_carried 103 = .ok (.iload_n 2, 1) := dk_28 (dk_at dksX0_carried_4 10 rfl rfl)
theorem dX0_carried_104 : decode cX0_carried 104 = .ok (.ireturn, 1) := dk_172 (dk_at dksX0_carried_4 11 rfl rfl)
abbrev cX0_sorts : ByteArray := prog_1_method_45_code
def yX0_sorts : MethodName := ⟨RX0, "sorts", "(I)V"⟩
def dkwX0_sorts_3 : List UInt8 := [167, 255, 187, 177]
abbrev dktX0_sorts_3 : List UInt8 := dkwX0_sorts_3 ++ []
def dkwX0_sorts_2 : List UInt8 := [180, 0, 89, 29, 4, 100, 46, 79, 132, 3, 255, 167, 255, 207, 42, 180, 0, 89, 29, 28, 79, 132, 2, 1]
abbrev dktX0_sorts_2 : List UInt8 := dkwX0_sorts_2 ++ dktX0_sorts_3
def dkwX0_sorts_1 : List UInt8 := [5, 96, 182, 0, 250, 42, 6, 28, 104, 5, 96, 182, 0, 250, 164, 0, 23, 42, 180, 0, 89, 29, 42]
abbrev dktX0_sorts_1 : List UInt8 := dkwX0_sorts_1 ++ dktX0_sorts_2
def dkwX0_sorts_0 : List UInt8 := [3, 61, 28, 27, 162, 0, 70, 28, 62, 29, 158, 0, 51, 42, 6, 42, 180, 0, 89, 29, 4, 100, 46, 104]
abbrev dktX0_sorts_0 : List UInt8 := dkwX0_sorts_0 ++ dktX0_sorts_1
theorem dksX0_sorts_0 : cX0_sorts.data.toList.drop 0 = dktX0_sorts_0 := by decide +kernel
theorem dksX0_sorts_1 : cX0_sorts.data.toList.drop 24 = dktX0_sorts_1 := dk_seg dksX0_sorts_0 24 rfl rfl
theorem dksX0_sorts_2 : cX0_sorts.data.toList.drop 47 = dktX0_sorts_2 := dk_seg dksX0_sorts_1 23 rfl rfl
theorem dksX0_sorts_3 : cX0_sorts.data.toList.drop 71 = dktX0_sorts_3 := dk_seg dksX0_sorts_2 24 rfl rfl
theorem dX0_sorts_0 : decode cX0_sorts 0 = .ok (.iconst 0, 1) := dk_3 (dk_at dksX0_sorts_0 0 rfl rfl)
theorem dX0_sorts_1 : decode cX0_sorts 1 = .ok (.istore_n 2, 1) := dk_61 (dk_at dksX0_sorts_0 1 rfl rfl)
theorem dX0_sorts_2 : decode cX0_sorts 2 = .ok (.iload_n 2, 1) := dk_28 (dk_at dksX0_sorts_0 2 rfl rfl)
theorem dX0_sorts_3 : decode cX0_sorts 3 = .ok (.iload_n 1, 1) := dk_27 (dk_at dksX0_sorts_0 3 rfl rfl)
theorem dX0_sorts_4 : decode cX0_sorts 4 = .ok (.if_icmp .ge 70, 3) := dk_162 0 70 (dk_at dksX0_sorts_0 4 rfl rfl)
theorem dX0_sorts_7 : decode cX0_sorts 7 = .ok (.iload_n 2, 1) := dk_28 (dk_at dksX0_sorts_0 7 rfl rfl)
theorem dX0_sorts_8 : decode cX0_sorts 8 = .ok (.istore_n 3, 1) := dk_62 (dk_at dksX0_sorts_0 8 rfl rfl)
theorem dX0_sorts_9 : decode cX0_sorts 9 = .ok (.iload_n 3, 1) := dk_29 (dk_at dksX0_sorts_0 9 rfl rfl)
theorem dX0_sorts_10 : decode cX0_sorts 10 = .ok (.ifCond .le 51, 3) := dk_158 0 51 (dk_at dksX0_sorts_0 10 rfl rfl)
theorem dX0_sorts_13 : decode cX0_sorts 13 = .ok (.aload_n 0, 1) := dk_42 (dk_at dksX0_sorts_0 13 rfl rfl)
theorem dX0_sorts_14 : decode cX0_sorts 14 = .ok (.iconst 3, 1) := dk_6 (dk_at dksX0_sorts_0 14 rfl rfl)
theorem dX0_sorts_15 : decode cX0_sorts 15 = .ok (.aload_n 0, 1) := dk_42 (dk_at dksX0_sorts_0 15 rfl rfl)
theorem dX0_sorts_16 : decode cX0_sorts 16 = .ok (.getfield 89, 3) := dk_180 0 89 (dk_at dksX0_sorts_0 16 rfl rfl)
theorem dX0_sorts_19 : decode cX0_sorts 19 = .ok (.iload_n 3, 1) := dk_29 (dk_at dksX0_sorts_0 19 rfl rfl)
theorem dX0_sorts_20 : decode cX0_sorts 20 = .ok (.iconst 1, 1) := dk_4 (dk_at dksX0_sorts_0 20 rfl rfl)
theorem dX0_sorts_21 : decode cX0_sorts 21 = .ok (.isub, 1) := dk_100 (dk_at dksX0_sorts_0 21 rfl rfl)
theorem dX0_sorts_22 : decode cX0_sorts 22 = .ok (.iaload, 1) := dk_46 (dk_at dksX0_sorts_0 22 rfl rfl)
theorem dX0_sorts_23 : decode cX0_sorts 23 = .ok (.imul, 1) := dk_104 (dk_at dksX0_sorts_0 23 rfl rfl)
theorem dX0_sorts_24 : decode cX0_sorts 24 = .ok (.iconst 2, 1) := dk_5 (dk_at dksX0_sorts_1 0 rfl rfl)
theorem dX0_sorts_25 : decode cX0_sorts 25 = .ok (.iadd, 1) := dk_96 (dk_at dksX0_sorts_1 1 rfl rfl)
theorem dX0_sorts_26 : decode cX0_sorts 26 = .ok (.invokevirtual 250, 3) := dk_182 0 250 (dk_at dksX0_sorts_1 2 rfl rfl)
theorem dX0_sorts_29 : decode cX0_sorts 29 = .ok (.aload_n 0, 1) := dk_42 (dk_at dksX0_sorts_1 5 rfl rfl)
theorem dX0_sorts_30 : decode cX0_sorts 30 = .ok (.iconst 3, 1) := dk_6 (dk_at dksX0_sorts_1 6 rfl rfl)
theorem dX0_sorts_31 : decode cX0_sorts 31 = .ok (.iload_n 2, 1) := dk_28 (dk_at dksX0_sorts_1 7 rfl rfl)
theorem dX0_sorts_32 : decode cX0_sorts 32 = .ok (.imul, 1) := dk_104 (dk_at dksX0_sorts_1 8 rfl rfl)
theorem dX0_sorts_33 : decode cX0_sorts 33 = .ok (.iconst 2, 1) := dk_5 (dk_at dksX0_sorts_1 9 rfl rfl)
theorem dX0_sorts_34 : decode cX0_sorts 34 = .ok (.iadd, 1) := dk_96 (dk_at dksX0_sorts_1 10 rfl rfl)
theorem dX0_sorts_35 : decode cX0_sorts 35 = .ok (.invokevirtual 250, 3) := dk_182 0 250 (dk_at dksX0_sorts_1 11 rfl rfl)
theorem dX0_sorts_38 : decode cX0_sorts 38 = .ok (.if_icmp .le 23, 3) := dk_164 0 23 (dk_at dksX0_sorts_1 14 rfl rfl)
theorem dX0_sorts_41 : decode cX0_sorts 41 = .ok (.aload_n 0, 1) := dk_42 (dk_at dksX0_sorts_1 17 rfl rfl)
theorem dX0_sorts_42 : decode cX0_sorts 42 = .ok (.getfield 89, 3) := dk_180 0 89 (dk_at dksX0_sorts_1 18 rfl rfl)
theorem dX0_sorts_45 : decode cX0_sorts 45 = .ok (.iload_n 3, 1) := dk_29 (dk_at dksX0_sorts_1 21 rfl rfl)
theorem dX0_sorts_46 : decode cX0_sorts 46 = .ok (.aload_n 0, 1) := dk_42 (dk_at dksX0_sorts_1 22 rfl rfl)
theorem dX0_sorts_47 : decode cX0_sorts 47 = .ok (.getfield 89, 3) := dk_180 0 89 (dk_at dksX0_sorts_2 0 rfl rfl)
theorem dX0_sorts_50 : decode cX0_sorts 50 = .ok (.iload_n 3, 1) := dk_29 (dk_at dksX0_sorts_2 3 rfl rfl)
theorem dX0_sorts_51 : decode cX0_sorts 51 = .ok (.iconst 1, 1) := dk_4 (dk_at dksX0_sorts_2 4 rfl rfl)
theorem dX0_sorts_52 : decode cX0_sorts 52 = .ok (.isub, 1) := dk_100 (dk_at dksX0_sorts_2 5 rfl rfl)
theorem dX0_sorts_53 : decode cX0_sorts 53 = .ok (.iaload, 1) := dk_46 (dk_at dksX0_sorts_2 6 rfl rfl)
theorem dX0_sorts_54 : decode cX0_sorts 54 = .ok (.iastore, 1) := dk_79 (dk_at dksX0_sorts_2 7 rfl rfl)
theorem dX0_sorts_55 : decode cX0_sorts 55 = .ok (.iinc 3 (-1), 3) := dk_132 3 255 (dk_at dksX0_sorts_2 8 rfl rfl)
theorem dX0_sorts_58 : decode cX0_sorts 58 = .ok (.goto (-49), 3) := dk_167 255 207 (dk_at dksX0_sorts_2 11 rfl rfl)
theorem dX0_sorts_61 : decode cX0_sorts 61 = .ok (.aload_n 0, 1) := dk_42 (dk_at dksX0_sorts_2 14 rfl rfl)
theorem dX0_sorts_62 : decode cX0_sorts 62 = .ok (.getfield 89, 3) := dk_180 0 89 (dk_at dksX0_sorts_2 15 rfl rfl)
theorem dX0_sorts_65 : decode cX0_sorts 65 = .ok (.iload_n 3, 1) := dk_29 (dk_at dksX0_sorts_2 18 rfl rfl)
theorem dX0_sorts_66 : decode cX0_sorts 66 = .ok (.iload_n 2, 1) := dk_28 (dk_at dksX0_sorts_2 19 rfl rfl)
theorem dX0_sorts_67 : decode cX0_sorts 67 = .ok (.iastore, 1) := dk_79 (dk_at dksX0_sorts_2 20 rfl rfl)
theorem dX0_sorts_68 : decode cX0_sorts 68 = .ok (.iinc 2 1, 3) := dk_132 2 1 (dk_at dksX0_sorts_2 21 rfl rfl)
theorem dX0_sorts_71 : decode cX0_sorts 71 = .ok (.goto (-69), 3) := dk_167 255 187 (dk_at dksX0_sorts_3 0 rfl rfl)
theorem dX0_sorts_74 : decode cX0_sorts 74 = .ok (.return_, 1) := dk_177 (dk_at dksX0_sorts_3 3 rfl rfl)
abbrev cX0_isInTime : ByteArray := prog_1_method_46_code
def yX0_isInTime : MethodName := ⟨RX0, "isInTime", "(II)Z"⟩
def dkwX0_isInTime_3 : List UInt8 := [167, 255, 193, 4, 172]
abbrev dktX0_isInTime_3 : List UInt8 := dkwX0_isInTime_3 ++ []
def dkwX0_isInTime_2 : List UInt8 := [6, 42, 180, 0, 89, 21, 4, 46, 104, 5, 96, 182, 0, 250, 164, 0, 5, 3, 172, 132, 4, 1]
abbrev dktX0_isInTime_2 : List UInt8 := dkwX0_isInTime_2 ++ dktX0_isInTime_3
def dkwX0_isInTime_1 : List UInt8 := [154, 0, 6, 167, 0, 40, 29, 42, 6, 42, 180, 0, 89, 21, 4, 46, 104, 182, 0, 250, 96, 62, 29, 42]
abbrev dktX0_isInTime_1 : List UInt8 := dkwX0_isInTime_1 ++ dktX0_isInTime_2
def dkwX0_isInTime_0 : List UInt8 := [3, 62, 3, 54, 4, 21, 4, 28, 162, 0, 63, 27, 42, 180, 0, 89, 21, 4, 46, 184, 0, 247]
abbrev dktX0_isInTime_0 : List UInt8 := dkwX0_isInTime_0 ++ dktX0_isInTime_1
theorem dksX0_isInTime_0 : cX0_isInTime.data.toList.drop 0 = dktX0_isInTime_0 := by decide +kernel
theorem dksX0_isInTime_1 : cX0_isInTime.data.toList.drop 22 = dktX0_isInTime_1 := dk_seg dksX0_isInTime_0 22 rfl rfl
theorem dksX0_isInTime_2 : cX0_isInTime.data.toList.drop 46 = dktX0_isInTime_2 := dk_seg dksX0_isInTime_1 24 rfl rfl
theorem dksX0_isInTime_3 : cX0_isInTime.data.toList.drop 68 = dktX0_isInTime_3 := dk_seg dksX0_isInTime_2 22 rfl rfl
theorem dX0_isInTime_0 : decode cX0_isInTime 0 = .ok (.iconst 0, 1) := dk_3 (dk_at dksX0_isInTime_0 0 rfl rfl)
theorem dX0_isInTime_1 : decode cX0_isInTime 1 = .ok (.istore_n 3, 1) := dk_62 (dk_at dksX0_isInTime_0 1 rfl rfl)
theorem dX0_isInTime_2 : decode cX0_isInTime 2 = .ok (.iconst 0, 1) := dk_3 (dk_at dksX0_isInTime_0 2 rfl rfl)
theorem dX0_isInTime_3 : decode cX0_isInTime 3 = .ok (.istore 4, 2) := dk_54 4 (dk_at dksX0_isInTime_0 3 rfl rfl)
theorem dX0_isInTime_5 : decode cX0_isInTime 5 = .ok (.iload 4, 2) := dk_21 4 (dk_at dksX0_isInTime_0 5 rfl rfl)
theorem dX0_isInTime_7 : decode cX0_isInTime 7 = .ok (.iload_n 2, 1) := dk_28 (dk_at dksX0_isInTime_0 7 rfl rfl)
theorem dX0_isInTime_8 : decode cX0_isInTime 8 = .ok (.if_icmp .ge 63, 3) := dk_162 0 63 (dk_at dksX0_isInTime_0 8 rfl rfl)
theorem dX0_isInTime_11 : decode cX0_isInTime 11 = .ok (.iload_n 1, 1) := dk_27 (dk_at dksX0_isInTime_0 11 rfl rfl)
theorem dX0_isInTime_12 : decode cX0_isInTime 12 = .ok (.aload_n 0, 1) := dk_42 (dk_at dksX0_isInTime_0 12 rfl rfl)
theorem dX0_isInTime_13 : decode cX0_isInTime 13 = .ok (.getfield 89, 3) := dk_180 0 89 (dk_at dksX0_isInTime_0 13 rfl rfl)
theorem dX0_isInTime_16 : decode cX0_isInTime 16 = .ok (.iload 4, 2) := dk_21 4 (dk_at dksX0_isInTime_0 16 rfl rfl)
theorem dX0_isInTime_18 : decode cX0_isInTime 18 = .ok (.iaload, 1) := dk_46 (dk_at dksX0_isInTime_0 18 rfl rfl)
theorem dX0_isInTime_19 : decode cX0_isInTime 19 = .ok (.invokestatic 247, 3) := dk_184 0 247 (dk_at dksX0_isInTime_0 19 rfl rfl)
theorem dX0_isInTime_22 : decode cX0_isInTime 22 = .ok (.ifCond .ne 6, 3) := dk_154 0 6 (dk_at dksX0_isInTime_1 0 rfl rfl)
theorem dX0_isInTime_25 : decode cX0_isInTime 25 = .ok (.goto 40, 3) := dk_167 0 40 (dk_at dksX0_isInTime_1 3 rfl rfl)
theorem dX0_isInTime_28 : decode cX0_isInTime 28 = .ok (.iload_n 3, 1) := dk_29 (dk_at dksX0_isInTime_1 6 rfl rfl)
theorem dX0_isInTime_29 : decode cX0_isInTime 29 = .ok (.aload_n 0, 1) := dk_42 (dk_at dksX0_isInTime_1 7 rfl rfl)
theorem dX0_isInTime_30 : decode cX0_isInTime 30 = .ok (.iconst 3, 1) := dk_6 (dk_at dksX0_isInTime_1 8 rfl rfl)
theorem dX0_isInTime_31 : decode cX0_isInTime 31 = .ok (.aload_n 0, 1) := dk_42 (dk_at dksX0_isInTime_1 9 rfl rfl)
theorem dX0_isInTime_32 : decode cX0_isInTime 32 = .ok (.getfield 89, 3) := dk_180 0 89 (dk_at dksX0_isInTime_1 10 rfl rfl)
theorem dX0_isInTime_35 : decode cX0_isInTime 35 = .ok (.iload 4, 2) := dk_21 4 (dk_at dksX0_isInTime_1 13 rfl rfl)
theorem dX0_isInTime_37 : decode cX0_isInTime 37 = .ok (.iaload, 1) := dk_46 (dk_at dksX0_isInTime_1 15 rfl rfl)
theorem dX0_isInTime_38 : decode cX0_isInTime 38 = .ok (.imul, 1) := dk_104 (dk_at dksX0_isInTime_1 16 rfl rfl)
theorem dX0_isInTime_39 : decode cX0_isInTime 39 = .ok (.invokevirtual 250, 3) := dk_182 0 250 (dk_at dksX0_isInTime_1 17 rfl rfl)
theorem dX0_isInTime_42 : decode cX0_isInTime 42 = .ok (.iadd, 1) := dk_96 (dk_at dksX0_isInTime_1 20 rfl rfl)
theorem dX0_isInTime_43 : decode cX0_isInTime 43 = .ok (.istore_n 3, 1) := dk_62 (dk_at dksX0_isInTime_1 21 rfl rfl)
theorem dX0_isInTime_44 : decode cX0_isInTime 44 = .ok (.iload_n 3, 1) := dk_29 (dk_at dksX0_isInTime_1 22 rfl rfl)
theorem dX0_isInTime_45 : decode cX0_isInTime 45 = .ok (.aload_n 0, 1) := dk_42 (dk_at dksX0_isInTime_1 23 rfl rfl)
theorem dX0_isInTime_46 : decode cX0_isInTime 46 = .ok (.iconst 3, 1) := dk_6 (dk_at dksX0_isInTime_2 0 rfl rfl)
theorem dX0_isInTime_47 : decode cX0_isInTime 47 = .ok (.aload_n 0, 1) := dk_42 (dk_at dksX0_isInTime_2 1 rfl rfl)
theorem dX0_isInTime_48 : decode cX0_isInTime 48 = .ok (.getfield 89, 3) := dk_180 0 89 (dk_at dksX0_isInTime_2 2 rfl rfl)
theorem dX0_isInTime_51 : decode cX0_isInTime 51 = .ok (.iload 4, 2) := dk_21 4 (dk_at dksX0_isInTime_2 5 rfl rfl)
theorem dX0_isInTime_53 : decode cX0_isInTime 53 = .ok (.iaload, 1) := dk_46 (dk_at dksX0_isInTime_2 7 rfl rfl)
theorem dX0_isInTime_54 : decode cX0_isInTime 54 = .ok (.imul, 1) := dk_104 (dk_at dksX0_isInTime_2 8 rfl rfl)
theorem dX0_isInTime_55 : decode cX0_isInTime 55 = .ok (.iconst 2, 1) := dk_5 (dk_at dksX0_isInTime_2 9 rfl rfl)
theorem dX0_isInTime_56 : decode cX0_isInTime 56 = .ok (.iadd, 1) := dk_96 (dk_at dksX0_isInTime_2 10 rfl rfl)
theorem dX0_isInTime_57 : decode cX0_isInTime 57 = .ok (.invokevirtual 250, 3) := dk_182 0 250 (dk_at dksX0_isInTime_2 11 rfl rfl)
theorem dX0_isInTime_60 : decode cX0_isInTime 60 = .ok (.if_icmp .le 5, 3) := dk_164 0 5 (dk_at dksX0_isInTime_2 14 rfl rfl)
theorem dX0_isInTime_63 : decode cX0_isInTime 63 = .ok (.iconst 0, 1) := dk_3 (dk_at dksX0_isInTime_2 17 rfl rfl)
theorem dX0_isInTime_64 : decode cX0_isInTime 64 = .ok (.ireturn, 1) := dk_172 (dk_at dksX0_isInTime_2 18 rfl rfl)
theorem dX0_isInTime_65 : decode cX0_isInTime 65 = .ok (.iinc 4 1, 3) := dk_132 4 1 (dk_at dksX0_isInTime_2 19 rfl rfl)
theorem dX0_isInTime_68 : decode cX0_isInTime 68 = .ok (.goto (-63), 3) := dk_167 255 193 (dk_at dksX0_isInTime_3 0 rfl rfl)
theorem dX0_isInTime_71 : decode cX0_isInTime 71 = .ok (.iconst 1, 1) := dk_4 (dk_at dksX0_isInTime_3 3 rfl rfl)
theorem dX0_isInTime_72 : decode cX0_isInTime 72 = .ok (.ireturn, 1) := dk_172 (dk_at dksX0_isInTime_3 4 rfl rfl)
abbrev cX0_premium : ByteArray := prog_1_method_48_code
def yX0_premium : MethodName := ⟨RX0, "premium", "(II)I"⟩
def dkwX0_premium_5 : List UInt8 := [167, 0, 5, 21, 4, 172]
abbrev dktX0_premium_5 : List UInt8 := dkwX0_premium_5 ++ []
def dkwX0_premium_4 : List UInt8 := [21, 5, 104, 4, 96, 182, 0, 250, 104, 54, 4, 132, 5, 1, 167, 255, 192, 28, 154, 0, 7, 29]
abbrev dktX0_premium_4 : List UInt8 := dkwX0_premium_4 ++ dktX0_premium_5
def dkwX0_premium_3 : List UInt8 := [21, 5, 104, 182, 0, 250, 42, 5, 21, 5, 104, 4, 96, 182, 0, 250, 104, 96, 62, 21, 4, 42, 5]
abbrev dktX0_premium_3 : List UInt8 := dkwX0_premium_3 ++ dktX0_premium_4
def dkwX0_premium_2 : List UInt8 := [162, 0, 64, 42, 5, 21, 5, 104, 4, 96, 182, 0, 250, 16, 10, 164, 0, 6, 16, 254, 172, 29, 42, 5]
abbrev dktX0_premium_2 : List UInt8 := dkwX0_premium_2 ++ dktX0_premium_3
def dkwX0_premium_1 : List UInt8 := [180, 0, 106, 164, 0, 5, 2, 172, 42, 3, 181, 0, 106, 3, 62, 4, 54, 4, 3, 54, 5, 21, 5, 27]
abbrev dktX0_premium_1 : List UInt8 := dkwX0_premium_1 ++ dktX0_premium_2
def dkwX0_premium_0 : List UInt8 := [27, 4, 16, 8, 184, 0, 113, 153, 0, 21, 28, 5, 184, 0, 12, 153, 0, 13, 5, 27, 104, 42]
abbrev dktX0_premium_0 : List UInt8 := dkwX0_premium_0 ++ dktX0_premium_1
theorem dksX0_premium_0 : cX0_premium.data.toList.drop 0 = dktX0_premium_0 := by decide +kernel
theorem dksX0_premium_1 : cX0_premium.data.toList.drop 22 = dktX0_premium_1 := dk_seg dksX0_premium_0 22 rfl rfl
theorem dksX0_premium_2 : cX0_premium.data.toList.drop 46 = dktX0_premium_2 := dk_seg dksX0_premium_1 24 rfl rfl
theorem dksX0_premium_3 : cX0_premium.data.toList.drop 70 = dktX0_premium_3 := dk_seg dksX0_premium_2 24 rfl rfl
theorem dksX0_premium_4 : cX0_premium.data.toList.drop 93 = dktX0_premium_4 := dk_seg dksX0_premium_3 23 rfl rfl
theorem dksX0_premium_5 : cX0_premium.data.toList.drop 115 = dktX0_premium_5 := dk_seg dksX0_premium_4 22 rfl rfl
theorem dX0_premium_0 : decode cX0_premium 0 = .ok (.iload_n 1, 1) := dk_27 (dk_at dksX0_premium_0 0 rfl rfl)
theorem dX0_premium_1 : decode cX0_premium 1 = .ok (.iconst 1, 1) := dk_4 (dk_at dksX0_premium_0 1 rfl rfl)
theorem dX0_premium_2 : decode cX0_premium 2 = .ok (.bipush 8, 2) := dk_16 8 (dk_at dksX0_premium_0 2 rfl rfl)
theorem dX0_premium_4 : decode cX0_premium 4 = .ok (.invokestatic 113, 3) := dk_184 0 113 (dk_at dksX0_premium_0 4 rfl rfl)
theorem dX0_premium_7 : decode cX0_premium 7 = .ok (.ifCond .eq 21, 3) := dk_153 0 21 (dk_at dksX0_premium_0 7 rfl rfl)
theorem dX0_premium_10 : decode cX0_premium 10 = .ok (.iload_n 2, 1) := dk_28 (dk_at dksX0_premium_0 10 rfl rfl)
theorem dX0_premium_11 : decode cX0_premium 11 = .ok (.iconst 2, 1) := dk_5 (dk_at dksX0_premium_0 11 rfl rfl)
theorem dX0_premium_12 : decode cX0_premium 12 = .ok (.invokestatic 12, 3) := dk_184 0 12 (dk_at dksX0_premium_0 12 rfl rfl)
theorem dX0_premium_15 : decode cX0_premium 15 = .ok (.ifCond .eq 13, 3) := dk_153 0 13 (dk_at dksX0_premium_0 15 rfl rfl)
theorem dX0_premium_18 : decode cX0_premium 18 = .ok (.iconst 2, 1) := dk_5 (dk_at dksX0_premium_0 18 rfl rfl)
theorem dX0_premium_19 : decode cX0_premium 19 = .ok (.iload_n 1, 1) := dk_27 (dk_at dksX0_premium_0 19 rfl rfl)
theorem dX0_premium_20 : decode cX0_premium 20 = .ok (.imul, 1) := dk_104 (dk_at dksX0_premium_0 20 rfl rfl)
theorem dX0_premium_21 : decode cX0_premium 21 = .ok (.aload_n 0, 1) := dk_42 (dk_at dksX0_premium_0 21 rfl rfl)
theorem dX0_premium_22 : decode cX0_premium 22 = .ok (.getfield 106, 3) := dk_180 0 106 (dk_at dksX0_premium_1 0 rfl rfl)
theorem dX0_premium_25 : decode cX0_premium 25 = .ok (.if_icmp .le 5, 3) := dk_164 0 5 (dk_at dksX0_premium_1 3 rfl rfl)
theorem dX0_premium_28 : decode cX0_premium 28 = .ok (.iconst (-1), 1) := dk_2 (dk_at dksX0_premium_1 6 rfl rfl)
theorem dX0_premium_29 : decode cX0_premium 29 = .ok (.ireturn, 1) := dk_172 (dk_at dksX0_premium_1 7 rfl rfl)
theorem dX0_premium_30 : decode cX0_premium 30 = .ok (.aload_n 0, 1) := dk_42 (dk_at dksX0_premium_1 8 rfl rfl)
theorem dX0_premium_31 : decode cX0_premium 31 = .ok (.iconst 0, 1) := dk_3 (dk_at dksX0_premium_1 9 rfl rfl)
theorem dX0_premium_32 : decode cX0_premium 32 = .ok (.putfield 106, 3) := dk_181 0 106 (dk_at dksX0_premium_1 10 rfl rfl)
theorem dX0_premium_35 : decode cX0_premium 35 = .ok (.iconst 0, 1) := dk_3 (dk_at dksX0_premium_1 13 rfl rfl)
theorem dX0_premium_36 : decode cX0_premium 36 = .ok (.istore_n 3, 1) := dk_62 (dk_at dksX0_premium_1 14 rfl rfl)
theorem dX0_premium_37 : decode cX0_premium 37 = .ok (.iconst 1, 1) := dk_4 (dk_at dksX0_premium_1 15 rfl rfl)
theorem dX0_premium_38 : decode cX0_premium 38 = .ok (.istore 4, 2) := dk_54 4 (dk_at dksX0_premium_1 16 rfl rfl)
theorem dX0_premium_40 : decode cX0_premium 40 = .ok (.iconst 0, 1) := dk_3 (dk_at dksX0_premium_1 18 rfl rfl)
theorem dX0_premium_41 : decode cX0_premium 41 = .ok (.istore 5, 2) := dk_54 5 (dk_at dksX0_premium_1 19 rfl rfl)
theorem dX0_premium_43 : decode cX0_premium 43 = .ok (.iload 5, 2) := dk_21 5 (dk_at dksX0_premium_1 21 rfl rfl)
theorem dX0_premium_45 : decode cX0_premium 45 = .ok (.iload_n 1, 1) := dk_27 (dk_at dksX0_premium_1 23 rfl rfl)
theorem dX0_premium_46 : decode cX0_premium 46 = .ok (.if_icmp .ge 64, 3) := dk_162 0 64 (dk_at dksX0_premium_2 0 rfl rfl)
theorem dX0_premium_49 : decode cX0_premium 49 = .ok (.aload_n 0, 1) := dk_42 (dk_at dksX0_premium_2 3 rfl rfl)
theorem dX0_premium_50 : decode cX0_premium 50 = .ok (.iconst 2, 1) := dk_5 (dk_at dksX0_premium_2 4 rfl rfl)
theorem dX0_premium_51 : decode cX0_premium 51 = .ok (.iload 5, 2) := dk_21 5 (dk_at dksX0_premium_2 5 rfl rfl)
theorem dX0_premium_53 : decode cX0_premium 53 = .ok (.imul, 1) := dk_104 (dk_at dksX0_premium_2 7 rfl rfl)
theorem dX0_premium_54 : decode cX0_premium 54 = .ok (.iconst 1, 1) := dk_4 (dk_at dksX0_premium_2 8 rfl rfl)
theorem dX0_premium_55 : decode cX0_premium 55 = .ok (.iadd, 1) := dk_96 (dk_at dksX0_premium_2 9 rfl rfl)
theorem dX0_premium_56 : decode cX0_premium 56 = .ok (.invokevirtual 250, 3) := dk_182 0 250 (dk_at dksX0_premium_2 10 rfl rfl)
theorem dX0_premium_59 : decode cX0_premium 59 = .ok (.bipush 10, 2) := dk_16 10 (dk_at dksX0_premium_2 13 rfl rfl)
theorem dX0_premium_61 : decode cX0_premium 61 = .ok (.if_icmp .le 6, 3) := dk_164 0 6 (dk_at dksX0_premium_2 15 rfl rfl)
theorem dX0_premium_64 : decode cX0_premium 64 = .ok (.bipush (-2), 2) := dk_16 254 (dk_at dksX0_premium_2 18 rfl rfl)
theorem dX0_premium_66 : decode cX0_premium 66 = .ok (.ireturn, 1) := dk_172 (dk_at dksX0_premium_2 20 rfl rfl)
theorem dX0_premium_67 : decode cX0_premium 67 = .ok (.iload_n 3, 1) := dk_29 (dk_at dksX0_premium_2 21 rfl rfl)
theorem dX0_premium_68 : decode cX0_premium 68 = .ok (.aload_n 0, 1) := dk_42 (dk_at dksX0_premium_2 22 rfl rfl)
theorem dX0_premium_69 : decode cX0_premium 69 = .ok (.iconst 2, 1) := dk_5 (dk_at dksX0_premium_2 23 rfl rfl)
theorem dX0_premium_70 : decode cX0_premium 70 = .ok (.iload 5, 2) := dk_21 5 (dk_at dksX0_premium_3 0 rfl rfl)
theorem dX0_premium_72 : decode cX0_premium 72 = .ok (.imul, 1) := dk_104 (dk_at dksX0_premium_3 2 rfl rfl)
theorem dX0_premium_73 : decode cX0_premium 73 = .ok (.invokevirtual 250, 3) := dk_182 0 250 (dk_at dksX0_premium_3 3 rfl rfl)
theorem dX0_premium_76 : decode cX0_premium 76 = .ok (.aload_n 0, 1) := dk_42 (dk_at dksX0_premium_3 6 rfl rfl)
theorem dX0_premium_77 : decode cX0_premium 77 = .ok (.iconst 2, 1) := dk_5 (dk_at dksX0_premium_3 7 rfl rfl)
theorem dX0_premium_78 : decode cX0_premium 78 = .ok (.iload 5, 2) := dk_21 5 (dk_at dksX0_premium_3 8 rfl rfl)
theorem dX0_premium_80 : decode cX0_premium 80 = .ok (.imul, 1) := dk_104 (dk_at dksX0_premium_3 10 rfl rfl)
theorem dX0_premium_81 : decode cX0_premium 81 = .ok (.iconst 1, 1) := dk_4 (dk_at dksX0_premium_3 11 rfl rfl)
theorem dX0_premium_82 : decode cX0_premium 82 = .ok (.iadd, 1) := dk_96 (dk_at dksX0_premium_3 12 rfl rfl)
theorem dX0_premium_83 : decode cX0_premium 83 = .ok (.invokevirtual 250, 3) := dk_182 0 250 (dk_at dksX0_premium_3 13 rfl rfl)
theorem dX0_premium_86 : decode cX0_premium 86 = .ok (.imul, 1) := dk_104 (dk_at dksX0_premium_3 16 rfl rfl)
theorem dX0_premium_87 : decode cX0_premium 87 = .ok (.iadd, 1) := dk_96 (dk_at dksX0_premium_3 17 rfl rfl)
theorem dX0_premium_88 : decode cX0_premium 88 = .ok (.istore_n 3, 1) := dk_62 (dk_at dksX0_premium_3 18 rfl rfl)
theorem dX0_premium_89 : decode cX0_premium 89 = .ok (.iload 4, 2) := dk_21 4 (dk_at dksX0_premium_3 19 rfl rfl)
theorem dX0_premium_91 : decode cX0_premium 91 = .ok (.aload_n 0, 1) := dk_42 (dk_at dksX0_premium_3 21 rfl rfl)
theorem dX0_premium_92 : decode cX0_premium 92 = .ok (.iconst 2, 1) := dk_5 (dk_at dksX0_premium_3 22 rfl rfl)
theorem dX0_premium_93 : decode cX0_premium 93 = .ok (.iload 5, 2) := dk_21 5 (dk_at dksX0_premium_4 0 rfl rfl)
theorem dX0_premium_95 : decode cX0_premium 95 = .ok (.imul, 1) := dk_104 (dk_at dksX0_premium_4 2 rfl rfl)
theorem dX0_premium_96 : decode cX0_premium 96 = .ok (.iconst 1, 1) := dk_4 (dk_at dksX0_premium_4 3 rfl rfl)
theorem dX0_premium_97 : decode cX0_premium 97 = .ok (.iadd, 1) := dk_96 (dk_at dksX0_premium_4 4 rfl rfl)
theorem dX0_premium_98 : decode cX0_premium 98 = .ok (.invokevirtual 250, 3) := dk_182 0 250 (dk_at dksX0_premium_4 5 rfl rfl)
theorem dX0_premium_101 : decode cX0_premium 101 = .ok (.imul, 1) := dk_104 (dk_at dksX0_premium_4 8 rfl rfl)
theorem dX0_premium_102 : decode cX0_premium 102 = .ok (.istore 4, 2) := dk_54 4 (dk_at dksX0_premium_4 9 rfl rfl)
theorem dX0_premium_104 : decode cX0_premium 104 = .ok (.iinc 5 1, 3) := dk_132 5 1 (dk_at dksX0_premium_4 11 rfl rfl)
theorem dX0_premium_107 : decode cX0_premium 107 = .ok (.goto (-64), 3) := dk_167 255 192 (dk_at dksX0_premium_4 14 rfl rfl)
theorem dX0_premium_110 : decode cX0_premium 110 = .ok (.iload_n 2, 1) := dk_28 (dk_at dksX0_premium_4 17 rfl rfl)
theorem dX0_premium_111 : decode cX0_premium 111 = .ok (.ifCond .ne 7, 3) := dk_154 0 7 (dk_at dksX0_premium_4 18 rfl rfl)
theorem dX0_premium_114 : decode cX0_premium 114 = .ok (.iload_n 3, 1) := dk_29 (dk_at dksX0_premium_4 21 rfl rfl)
theorem dX0_premium_115 : decode cX0_premium 115 = .ok (.goto 5, 3) := dk_167 0 5 (dk_at dksX0_premium_5 0 rfl rfl)
theorem dX0_premium_118 : decode cX0_premium 118 = .ok (.iload 4, 2) := dk_21 4 (dk_at dksX0_premium_5 3 rfl rfl)
theorem dX0_premium_120 : decode cX0_premium 120 = .ok (.ireturn, 1) := dk_172 (dk_at dksX0_premium_5 5 rfl rfl)
abbrev cX0_seed : ByteArray := prog_1_method_49_code
def yX0_seed : MethodName := ⟨RX0, "seed", "(I)Z"⟩
def dkwX0_seed_0 : List UInt8 := [27, 19, 1, 24, 184, 0, 12, 154, 0, 5, 3, 172, 42, 180, 0, 47, 27, 181, 0, 92, 4, 172]
abbrev dktX0_seed_0 : List UInt8 := dkwX0_seed_0 ++ []
theorem dksX0_seed_0 : cX0_seed.data.toList.drop 0 = dktX0_seed_0 := by decide +kernel
theorem dX0_seed_0 : decode cX0_seed 0 = .ok (.iload_n 1, 1) := dk_27 (dk_at dksX0_seed_0 0 rfl rfl)
theorem dX0_seed_1 : decode cX0_seed 1 = .ok (.ldc_w 280, 3) := dk_19 1 24 (dk_at dksX0_seed_0 1 rfl rfl)
theorem dX0_seed_4 : decode cX0_seed 4 = .ok (.invokestatic 12, 3) := dk_184 0 12 (dk_at dksX0_seed_0 4 rfl rfl)
theorem dX0_seed_7 : decode cX0_seed 7 = .ok (.ifCond .ne 5, 3) := dk_154 0 5 (dk_at dksX0_seed_0 7 rfl rfl)
theorem dX0_seed_10 : decode cX0_seed 10 = .ok (.iconst 0, 1) := dk_3 (dk_at dksX0_seed_0 10 rfl rfl)
theorem dX0_seed_11 : decode cX0_seed 11 = .ok (.ireturn, 1) := dk_172 (dk_at dksX0_seed_0 11 rfl rfl)
theorem dX0_seed_12 : decode cX0_seed 12 = .ok (.aload_n 0, 1) := dk_42 (dk_at dksX0_seed_0 12 rfl rfl)
theorem dX0_seed_13 : decode cX0_seed 13 = .ok (.getfield 47, 3) := dk_180 0 47 (dk_at dksX0_seed_0 13 rfl rfl)
theorem dX0_seed_16 : decode cX0_seed 16 = .ok (.iload_n 1, 1) := dk_27 (dk_at dksX0_seed_0 16 rfl rfl)
theorem dX0_seed_17 : decode cX0_seed 17 = .ok (.putfield 92, 3) := dk_181 0 92 (dk_at dksX0_seed_0 17 rfl rfl)
theorem dX0_seed_20 : decode cX0_seed 20 = .ok (.iconst 1, 1) := dk_4 (dk_at dksX0_seed_0 20 rfl rfl)
theorem dX0_seed_21 : decode cX0_seed 21 = .ok (.ireturn, 1) := dk_172 (dk_at dksX0_seed_0 21 rfl rfl)
abbrev cX0_keep : ByteArray := prog_1_method_50_code
def yX0_keep : MethodName := ⟨RX0, "keep", "()I"⟩
def dkwX0_keep_1 : List UInt8 := [172]
abbrev dktX0_keep_1 : List UInt8 := dkwX0_keep_1 ++ []
def dkwX0_keep_0 : List UInt8 := [42, 4, 181, 1, 25, 42, 180, 0, 54, 42, 180, 0, 47, 182, 0, 139, 87, 42, 180, 0, 47, 180, 0, 200]
abbrev dktX0_keep_0 : List UInt8 := dkwX0_keep_0 ++ dktX0_keep_1
theorem dksX0_keep_0 : cX0_keep.data.toList.drop 0 = dktX0_keep_0 := by decide +kernel
theorem dksX0_keep_1 : cX0_keep.data.toList.drop 24 = dktX0_keep_1 := dk_seg dksX0_keep_0 24 rfl rfl
theorem dX0_keep_0 : decode cX0_keep 0 = .ok (.aload_n 0, 1) := dk_42 (dk_at dksX0_keep_0 0 rfl rfl)
theorem dX0_keep_1 : decode cX0_keep 1 = .ok (.iconst 1, 1) := dk_4 (dk_at dksX0_keep_0 1 rfl rfl)
theorem dX0_keep_2 : decode cX0_keep 2 = .ok (.putfield 281, 3) := dk_181 1 25 (dk_at dksX0_keep_0 2 rfl rfl)
theorem dX0_keep_5 : decode cX0_keep 5 = .ok (.aload_n 0, 1) := dk_42 (dk_at dksX0_keep_0 5 rfl rfl)
theorem dX0_keep_6 : decode cX0_keep 6 = .ok (.getfield 54, 3) := dk_180 0 54 (dk_at dksX0_keep_0 6 rfl rfl)
theorem dX0_keep_9 : decode cX0_keep 9 = .ok (.aload_n 0, 1) := dk_42 (dk_at dksX0_keep_0 9 rfl rfl)
theorem dX0_keep_10 : decode cX0_keep 10 = .ok (.getfield 47, 3) := dk_180 0 47 (dk_at dksX0_keep_0 10 rfl rfl)
theorem dX0_keep_13 : decode cX0_keep 13 = .ok (.invokevirtual 139, 3) := dk_182 0 139 (dk_at dksX0_keep_0 13 rfl rfl)
theorem dX0_keep_16 : decode cX0_keep 16 = .ok (.pop, 1) := dk_87 (dk_at dksX0_keep_0 16 rfl rfl)
theorem dX0_keep_17 : decode cX0_keep 17 = .ok (.aload_n 0, 1) := dk_42 (dk_at dksX0_keep_0 17 rfl rfl)
theorem dX0_keep_18 : decode cX0_keep 18 = .ok (.getfield 47, 3) := dk_180 0 47 (dk_at dksX0_keep_0 18 rfl rfl)
theorem dX0_keep_21 : decode cX0_keep 21 = .ok (.getfield 200, 3) := dk_180 0 200 (dk_at dksX0_keep_0 21 rfl rfl)
theorem dX0_keep_24 : decode cX0_keep 24 = .ok (.ireturn, 1) := dk_172 (dk_at dksX0_keep_1 0 rfl rfl)
abbrev cX0_undo : ByteArray := prog_1_method_51_code
def yX0_undo : MethodName := ⟨RX0, "undo", "()Z"⟩
def dkwX0_undo_0 : List UInt8 := [42, 180, 1, 25, 154, 0, 5, 3, 172, 42, 180, 0, 47, 42, 180, 0, 54, 182, 0, 139, 87, 4, 172]
abbrev dktX0_undo_0 : List UInt8 := dkwX0_undo_0 ++ []
theorem dksX0_undo_0 : cX0_undo.data.toList.drop 0 = dktX0_undo_0 := by decide +kernel
theorem dX0_undo_0 : decode cX0_undo 0 = .ok (.aload_n 0, 1) := dk_42 (dk_at dksX0_undo_0 0 rfl rfl)
theorem dX0_undo_1 : decode cX0_undo 1 = .ok (.getfield 281, 3) := dk_180 1 25 (dk_at dksX0_undo_0 1 rfl rfl)
theorem dX0_undo_4 : decode cX0_undo 4 = .ok (.ifCond .ne 5, 3) := dk_154 0 5 (dk_at dksX0_undo_0 4 rfl rfl)
theorem dX0_undo_7 : decode cX0_undo 7 = .ok (.iconst 0, 1) := dk_3 (dk_at dksX0_undo_0 7 rfl rfl)
theorem dX0_undo_8 : decode cX0_undo 8 = .ok (.ireturn, 1) := dk_172 (dk_at dksX0_undo_0 8 rfl rfl)
theorem dX0_undo_9 : decode cX0_undo 9 = .ok (.aload_n 0, 1) := dk_42 (dk_at dksX0_undo_0 9 rfl rfl)
theorem dX0_undo_10 : decode cX0_undo 10 = .ok (.getfield 47, 3) := dk_180 0 47 (dk_at dksX0_undo_0 10 rfl rfl)
theorem dX0_undo_13 : decode cX0_undo 13 = .ok (.aload_n 0, 1) := dk_42 (dk_at dksX0_undo_0 13 rfl rfl)
theorem dX0_undo_14 : decode cX0_undo 14 = .ok (.getfield 54, 3) := dk_180 0 54 (dk_at dksX0_undo_0 14 rfl rfl)
theorem dX0_undo_17 : decode cX0_undo 17 = .ok (.invokevirtual 139, 3) := dk_182 0 139 (dk_at dksX0_undo_0 17 rfl rfl)
theorem dX0_undo_20 : decode cX0_undo 20 = .ok (.pop, 1) := dk_87 (dk_at dksX0_undo_0 20 rfl rfl)
theorem dX0_undo_21 : decode cX0_undo 21 = .ok (.iconst 1, 1) := dk_4 (dk_at dksX0_undo_0 21 rfl rfl)
theorem dX0_undo_22 : decode cX0_undo 22 = .ok (.ireturn, 1) := dk_172 (dk_at dksX0_undo_0 22 rfl rfl)
abbrev cX0_check : ByteArray := prog_1_method_52_code
def yX0_check : MethodName := ⟨RX0, "check", "(I)I"⟩
def dkwX0_check_3 : List UInt8 := [180, 0, 188, 17, 0, 255, 126, 167, 0, 4, 3, 159, 0, 5, 28, 172, 132, 2, 1, 167, 255, 195, 2, 172]
abbrev dktX0_check_3 : List UInt8 := dkwX0_check_3 ++ []
def dkwX0_check_2 : List UInt8 := [180, 0, 47, 180, 0, 96, 28, 50, 180, 0, 194, 154, 0, 22, 42, 180, 0, 47, 180, 0, 96, 28, 50]
abbrev dktX0_check_2 : List UInt8 := dkwX0_check_2 ++ dktX0_check_3
def dkwX0_check_1 : List UInt8 := [181, 0, 106, 3, 61, 28, 27, 162, 0, 62, 42, 28, 182, 0, 250, 42, 28, 182, 0, 181, 153, 0, 37, 42]
abbrev dktX0_check_1 : List UInt8 := dkwX0_check_1 ++ dktX0_check_2
def dkwX0_check_0 : List UInt8 := [27, 3, 16, 24, 184, 0, 113, 153, 0, 11, 27, 42, 180, 0, 106, 164, 0, 6, 16, 254, 172, 42, 3]
abbrev dktX0_check_0 : List UInt8 := dkwX0_check_0 ++ dktX0_check_1
theorem dksX0_check_0 : cX0_check.data.toList.drop 0 = dktX0_check_0 := by decide +kernel
theorem dksX0_check_1 : cX0_check.data.toList.drop 23 = dktX0_check_1 := dk_seg dksX0_check_0 23 rfl rfl
theorem dksX0_check_2 : cX0_check.data.toList.drop 47 = dktX0_check_2 := dk_seg dksX0_check_1 24 rfl rfl
theorem dksX0_check_3 : cX0_check.data.toList.drop 70 = dktX0_check_3 := dk_seg dksX0_check_2 23 rfl rfl
theorem dX0_check_0 : decode cX0_check 0 = .ok (.iload_n 1, 1) := dk_27 (dk_at dksX0_check_0 0 rfl rfl)
theorem dX0_check_1 : decode cX0_check 1 = .ok (.iconst 0, 1) := dk_3 (dk_at dksX0_check_0 1 rfl rfl)
theorem dX0_check_2 : decode cX0_check 2 = .ok (.bipush 24, 2) := dk_16 24 (dk_at dksX0_check_0 2 rfl rfl)
theorem dX0_check_4 : decode cX0_check 4 = .ok (.invokestatic 113, 3) := dk_184 0 113 (dk_at dksX0_check_0 4 rfl rfl)
theorem dX0_check_7 : decode cX0_check 7 = .ok (.ifCond .eq 11, 3) := dk_153 0 11 (dk_at dksX0_check_0 7 rfl rfl)
theorem dX0_check_10 : decode cX0_check 10 = .ok (.iload_n 1, 1) := dk_27 (dk_at dksX0_check_0 10 rfl rfl)
theorem dX0_check_11 : decode cX0_check 11 = .ok (.aload_n 0, 1) := dk_42 (dk_at dksX0_check_0 11 rfl rfl)
theorem dX0_check_12 : decode cX0_check 12 = .ok (.getfield 106, 3) := dk_180 0 106 (dk_at dksX0_check_0 12 rfl rfl)
theorem dX0_check_15 : decode cX0_check 15 = .ok (.if_icmp .le 6, 3) := dk_164 0 6 (dk_at dksX0_check_0 15 rfl rfl)
theorem dX0_check_18 : decode cX0_check 18 = .ok (.bipush (-2), 2) := dk_16 254 (dk_at dksX0_check_0 18 rfl rfl)
theorem dX0_check_20 : decode cX0_check 20 = .ok (.ireturn, 1) := dk_172 (dk_at dksX0_check_0 20 rfl rfl)
theorem dX0_check_21 : decode cX0_check 21 = .ok (.aload_n 0, 1) := dk_42 (dk_at dksX0_check_0 21 rfl rfl)
theorem dX0_check_22 : decode cX0_check 22 = .ok (.iconst 0, 1) := dk_3 (dk_at dksX0_check_0 22 rfl rfl)
theorem dX0_check_23 : decode cX0_check 23 = .ok (.putfield 106, 3) := dk_181 0 106 (dk_at dksX0_check_1 0 rfl rfl)
theorem dX0_check_26 : decode cX0_check 26 = .ok (.iconst 0, 1) := dk_3 (dk_at dksX0_check_1 3 rfl rfl)
theorem dX0_check_27 : decode cX0_check 27 = .ok (.istore_n 2, 1) := dk_61 (dk_at dksX0_check_1 4 rfl rfl)
theorem dX0_check_28 : decode cX0_check 28 = .ok (.iload_n 2, 1) := dk_28 (dk_at dksX0_check_1 5 rfl rfl)
theorem dX0_check_29 : decode cX0_check 29 = .ok (.iload_n 1, 1) := dk_27 (dk_at dksX0_check_1 6 rfl rfl)
theorem dX0_check_30 : decode cX0_check 30 = .ok (.if_icmp .ge 62, 3) := dk_162 0 62 (dk_at dksX0_check_1 7 rfl rfl)
theorem dX0_check_33 : decode cX0_check 33 = .ok (.aload_n 0, 1) := dk_42 (dk_at dksX0_check_1 10 rfl rfl)
theorem dX0_check_34 : decode cX0_check 34 = .ok (.iload_n 2, 1) := dk_28 (dk_at dksX0_check_1 11 rfl rfl)
theorem dX0_check_35 : decode cX0_check 35 = .ok (.invokevirtual 250, 3) := dk_182 0 250 (dk_at dksX0_check_1 12 rfl rfl)
theorem dX0_check_38 : decode cX0_check 38 = .ok (.aload_n 0, 1) := dk_42 (dk_at dksX0_check_1 15 rfl rfl)
theorem dX0_check_39 : decode cX0_check 39 = .ok (.iload_n 2, 1) := dk_28 (dk_at dksX0_check_1 16 rfl rfl)
theorem dX0_check_40 : decode cX0_check 40 = .ok (.invokevirtual 181, 3) := dk_182 0 181 (dk_at dksX0_check_1 17 rfl rfl)
theorem dX0_check_43 : decode cX0_check 43 = .ok (.ifCond .eq 37, 3) := dk_153 0 37 (dk_at dksX0_check_1 20 rfl rfl)
theorem dX0_check_46 : decode cX0_check 46 = .ok (.aload_n 0, 1) := dk_42 (dk_at dksX0_check_1 23 rfl rfl)
theorem dX0_check_47 : decode cX0_check 47 = .ok (.getfield 47, 3) := dk_180 0 47 (dk_at dksX0_check_2 0 rfl rfl)
theorem dX0_check_50 : decode cX0_check 50 = .ok (.getfield 96, 3) := dk_180 0 96 (dk_at dksX0_check_2 3 rfl rfl)
theorem dX0_check_53 : decode cX0_check 53 = .ok (.iload_n 2, 1) := dk_28 (dk_at dksX0_check_2 6 rfl rfl)
theorem dX0_check_54 : decode cX0_check 54 = .ok (.aaload, 1) := dk_50 (dk_at dksX0_check_2 7 rfl rfl)
theorem dX0_check_55 : decode cX0_check 55 = .ok (.getfield 194, 3) := dk_180 0 194 (dk_at dksX0_check_2 8 rfl rfl)
theorem dX0_check_58 : decode cX0_check 58 = .ok (.ifCond .ne 22, 3) := dk_154 0 22 (dk_at dksX0_check_2 11 rfl rfl)
theorem dX0_check_61 : decode cX0_check 61 = .ok (.aload_n 0, 1) := dk_42 (dk_at dksX0_check_2 14 rfl rfl)
theorem dX0_check_62 : decode cX0_check 62 = .ok (.getfield 47, 3) := dk_180 0 47 (dk_at dksX0_check_2 15 rfl rfl)
theorem dX0_check_65 : decode cX0_check 65 = .ok (.getfield 96, 3) := dk_180 0 96 (dk_at dksX0_check_2 18 rfl rfl)
theorem dX0_check_68 : decode cX0_check 68 = .ok (.iload_n 2, 1) := dk_28 (dk_at dksX0_check_2 21 rfl rfl)
theorem dX0_check_69 : decode cX0_check 69 = .ok (.aaload, 1) := dk_50 (dk_at dksX0_check_2 22 rfl rfl)
theorem dX0_check_70 : decode cX0_check 70 = .ok (.getfield 188, 3) := dk_180 0 188 (dk_at dksX0_check_3 0 rfl rfl)
theorem dX0_check_73 : decode cX0_check 73 = .ok (.sipush 255, 3) := dk_17 0 255 (dk_at dksX0_check_3 3 rfl rfl)
theorem dX0_check_76 : decode cX0_check 76 = .ok (.iand, 1) := dk_126 (dk_at dksX0_check_3 6 rfl rfl)
theorem dX0_check_77 : decode cX0_check 77 = .ok (.goto 4, 3) := dk_167 0 4 (dk_at dksX0_check_3 7 rfl rfl)
theorem dX0_check_80 : decode cX0_check 80 = .ok (.iconst 0, 1) := dk_3 (dk_at dksX0_check_3 10 rfl rfl)
theorem dX0_check_81 : decode cX0_check 81 = .ok (.if_icmp .eq 5, 3) := dk_159 0 5 (dk_at dksX0_check_3 11 rfl rfl)
theorem dX0_check_84 : decode cX0_check 84 = .ok (.iload_n 2, 1) := dk_28 (dk_at dksX0_check_3 14 rfl rfl)
theorem dX0_check_85 : decode cX0_check 85 = .ok (.ireturn, 1) := dk_172 (dk_at dksX0_check_3 15 rfl rfl)
theorem dX0_check_86 : decode cX0_check 86 = .ok (.iinc 2 1, 3) := dk_132 2 1 (dk_at dksX0_check_3 16 rfl rfl)
theorem dX0_check_89 : decode cX0_check 89 = .ok (.goto (-61), 3) := dk_167 255 195 (dk_at dksX0_check_3 19 rfl rfl)
theorem dX0_check_92 : decode cX0_check 92 = .ok (.iconst (-1), 1) := dk_2 (dk_at dksX0_check_3 22 rfl rfl)
theorem dX0_check_93 : decode cX0_check 93 = .ok (.ireturn, 1) := dk_172 (dk_at dksX0_check_3 23 rfl rfl)
abbrev cX0_count : ByteArray := prog_1_method_54_code
def yX0_count : MethodName := ⟨RX0, "count", "(I)I"⟩
def dkwX0_count_5 : List UInt8 := [180, 0, 47, 182, 0, 164, 172, 2, 172]
abbrev dktX0_count_5 : List UInt8 := dkwX0_count_5 ++ []
def dkwX0_count_4 : List UInt8 := [172, 42, 180, 0, 64, 180, 1, 34, 172, 42, 180, 0, 106, 172, 42, 180, 0, 47, 180, 0, 92, 172, 42]
abbrev dktX0_count_4 : List UInt8 := dkwX0_count_4 ++ dktX0_count_5
def dkwX0_count_3 : List UInt8 := [180, 0, 47, 4, 182, 0, 154, 172, 42, 180, 0, 47, 5, 182, 0, 154, 172, 42, 180, 0, 47, 180, 1, 31]
abbrev dktX0_count_3 : List UInt8 := dkwX0_count_3 ++ dktX0_count_4
def dkwX0_count_2 : List UInt8 := [42, 180, 0, 47, 180, 0, 200, 172, 42, 182, 1, 28, 172, 42, 180, 0, 47, 182, 0, 167, 172, 42]
abbrev dktX0_count_2 : List UInt8 := dkwX0_count_2 ++ dktX0_count_3
def dkwX0_count_1 : List UInt8 := [170, 0, 0, 0, 0, 0, 131, 0, 0, 0, 0, 0, 0, 0, 9, 0, 0, 0, 55, 0, 0, 0, 63, 0, 0, 0, 68, 0, 0, 0, 76, 0, 0, 0, 85, 0, 0, 0, 94, 0, 0, 0, 102, 0, 0, 0, 110, 0, 0, 0, 115, 0, 0, 0, 123]
abbrev dktX0_count_1 : List UInt8 := dkwX0_count_1 ++ dktX0_count_2
def dkwX0_count_0 : List UInt8 := [27]
abbrev dktX0_count_0 : List UInt8 := dkwX0_count_0 ++ dktX0_count_1
theorem dksX0_count_0 : cX0_count.data.toList.drop 0 = dktX0_count_0 := by decide +kernel
theorem dksX0_count_1 : cX0_count.data.toList.drop 1 = dktX0_count_1 := dk_seg dksX0_count_0 1 rfl rfl
theorem dksX0_count_2 : cX0_count.data.toList.drop 56 = dktX0_count_2 := dk_seg dksX0_count_1 55 rfl rfl
theorem dksX0_count_3 : cX0_count.data.toList.drop 78 = dktX0_count_3 := dk_seg dksX0_count_2 22 rfl rfl
theorem dksX0_count_4 : cX0_count.data.toList.drop 102 = dktX0_count_4 := dk_seg dksX0_count_3 24 rfl rfl
theorem dksX0_count_5 : cX0_count.data.toList.drop 125 = dktX0_count_5 := dk_seg dksX0_count_4 23 rfl rfl
theorem dX0_count_0 : decode cX0_count 0 = .ok (.iload_n 1, 1) := dk_27 (dk_at dksX0_count_0 0 rfl rfl)
theorem dX0_count_1 : decode cX0_count 1 = .ok (.tableswitch 131 0 9 #[55, 63, 68, 76, 85, 94, 102, 110, 115, 123], 55) := by decide +kernel
theorem dX0_count_56 : decode cX0_count 56 = .ok (.aload_n 0, 1) := dk_42 (dk_at dksX0_count_2 0 rfl rfl)
theorem dX0_count_57 : decode cX0_count 57 = .ok (.getfield 47, 3) := dk_180 0 47 (dk_at dksX0_count_2 1 rfl rfl)
theorem dX0_count_60 : decode cX0_count 60 = .ok (.getfield 200, 3) := dk_180 0 200 (dk_at dksX0_count_2 4 rfl rfl)
theorem dX0_count_63 : decode cX0_count 63 = .ok (.ireturn, 1) := dk_172 (dk_at dksX0_count_2 7 rfl rfl)
theorem dX0_count_64 : decode cX0_count 64 = .ok (.aload_n 0, 1) := dk_42 (dk_at dksX0_count_2 8 rfl rfl)
theorem dX0_count_65 : decode cX0_count 65 = .ok (.invokevirtual 284, 3) := dk_182 1 28 (dk_at dksX0_count_2 9 rfl rfl)
theorem dX0_count_68 : decode cX0_count 68 = .ok (.ireturn, 1) := dk_172 (dk_at dksX0_count_2 12 rfl rfl)
theorem dX0_count_69 : decode cX0_count 69 = .ok (.aload_n 0, 1) := dk_42 (dk_at dksX0_count_2 13 rfl rfl)
theorem dX0_count_70 : decode cX0_count 70 = .ok (.getfield 47, 3) := dk_180 0 47 (dk_at dksX0_count_2 14 rfl rfl)
theorem dX0_count_73 : decode cX0_count 73 = .ok (.invokevirtual 167, 3) := dk_182 0 167 (dk_at dksX0_count_2 17 rfl rfl)
theorem dX0_count_76 : decode cX0_count 76 = .ok (.ireturn, 1) := dk_172 (dk_at dksX0_count_2 20 rfl rfl)
theorem dX0_count_77 : decode cX0_count 77 = .ok (.aload_n 0, 1) := dk_42 (dk_at dksX0_count_2 21 rfl rfl)
theorem dX0_count_78 : decode cX0_count 78 = .ok (.getfield 47, 3) := dk_180 0 47 (dk_at dksX0_count_3 0 rfl rfl)
theorem dX0_count_81 : decode cX0_count 81 = .ok (.iconst 1, 1) := dk_4 (dk_at dksX0_count_3 3 rfl rfl)
theorem dX0_count_82 : decode cX0_count 82 = .ok (.invokevirtual 154, 3) := dk_182 0 154 (dk_at dksX0_count_3 4 rfl rfl)
theorem dX0_count_85 : decode cX0_count 85 = .ok (.ireturn, 1) := dk_172 (dk_at dksX0_count_3 7 rfl rfl)
theorem dX0_count_86 : decode cX0_count 86 = .ok (.aload_n 0, 1) := dk_42 (dk_at dksX0_count_3 8 rfl rfl)
theorem dX0_count_87 : decode cX0_count 87 = .ok (.getfield 47, 3) := dk_180 0 47 (dk_at dksX0_count_3 9 rfl rfl)
theorem dX0_count_90 : decode cX0_count 90 = .ok (.iconst 2, 1) := dk_5 (dk_at dksX0_count_3 12 rfl rfl)
theorem dX0_count_91 : decode cX0_count 91 = .ok (.invokevirtual 154, 3) := dk_182 0 154 (dk_at dksX0_count_3 13 rfl rfl)
theorem dX0_count_94 : decode cX0_count 94 = .ok (.ireturn, 1) := dk_172 (dk_at dksX0_count_3 16 rfl rfl)
theorem dX0_count_95 : decode cX0_count 95 = .ok (.aload_n 0, 1) := dk_42 (dk_at dksX0_count_3 17 rfl rfl)
theorem dX0_count_96 : decode cX0_count 96 = .ok (.getfield 47, 3) := dk_180 0 47 (dk_at dksX0_count_3 18 rfl rfl)
theorem dX0_count_99 : decode cX0_count 99 = .ok (.getfield 287, 3) := dk_180 1 31 (dk_at dksX0_count_3 21 rfl rfl)
theorem dX0_count_102 : decode cX0_count 102 = .ok (.ireturn, 1) := dk_172 (dk_at dksX0_count_4 0 rfl rfl)
theorem dX0_count_103 : decode cX0_count 103 = .ok (.aload_n 0, 1) := dk_42 (dk_at dksX0_count_4 1 rfl rfl)
theorem dX0_count_104 : decode cX0_count 104 = .ok (.getfield 64, 3) := dk_180 0 64 (dk_at dksX0_count_4 2 rfl rfl)
theorem dX0_count_107 : decode cX0_count 107 = .ok (.getfield 290, 3) := dk_180 1 34 (dk_at dksX0_count_4 5 rfl rfl)
theorem dX0_count_110 : decode cX0_count 110 = .ok (.ireturn, 1) := dk_172 (dk_at dksX0_count_4 8 rfl rfl)
theorem dX0_count_111 : decode cX0_count 111 = .ok (.aload_n 0, 1) := dk_42 (dk_at dksX0_count_4 9 rfl rfl)
theorem dX0_count_112 : decode cX0_count 112 = .ok (.getfield 106, 3) := dk_180 0 106 (dk_at dksX0_count_4 10 rfl rfl)
theorem dX0_count_115 : decode cX0_count 115 = .ok (.ireturn, 1) := dk_172 (dk_at dksX0_count_4 13 rfl rfl)
theorem dX0_count_116 : decode cX0_count 116 = .ok (.aload_n 0, 1) := dk_42 (dk_at dksX0_count_4 14 rfl rfl)
theorem dX0_count_117 : decode cX0_count 117 = .ok (.getfield 47, 3) := dk_180 0 47 (dk_at dksX0_count_4 15 rfl rfl)
theorem dX0_count_120 : decode cX0_count 120 = .ok (.getfield 92, 3) := dk_180 0 92 (dk_at dksX0_count_4 18 rfl rfl)
theorem dX0_count_123 : decode cX0_count 123 = .ok (.ireturn, 1) := dk_172 (dk_at dksX0_count_4 21 rfl rfl)
theorem dX0_count_124 : decode cX0_count 124 = .ok (.aload_n 0, 1) := dk_42 (dk_at dksX0_count_4 22 rfl rfl)
theorem dX0_count_125 : decode cX0_count 125 = .ok (.getfield 47, 3) := dk_180 0 47 (dk_at dksX0_count_5 0 rfl rfl)
theorem dX0_count_128 : decode cX0_count 128 = .ok (.invokevirtual 164, 3) := dk_182 0 164 (dk_at dksX0_count_5 3 rfl rfl)
theorem dX0_count_131 : decode cX0_count 131 = .ok (.ireturn, 1) := dk_172 (dk_at dksX0_count_5 6 rfl rfl)
theorem dX0_count_132 : decode cX0_count 132 = .ok (.iconst (-1), 1) := dk_2 (dk_at dksX0_count_5 7 rfl rfl)
theorem dX0_count_133 : decode cX0_count 133 = .ok (.ireturn, 1) := dk_172 (dk_at dksX0_count_5 8 rfl rfl)
abbrev cX0_toldThings : ByteArray := prog_1_method_53_code
def yX0_toldThings : MethodName := ⟨RX0, "toldThings", "()I"⟩
def dkwX0_toldThings_1 : List UInt8 := [167, 0, 4, 3, 128, 60, 132, 2, 1, 167, 255, 229, 27, 172]
abbrev dktX0_toldThings_1 : List UInt8 := dkwX0_toldThings_1 ++ []
def dkwX0_toldThings_0 : List UInt8 := [3, 60, 3, 61, 28, 16, 24, 162, 0, 27, 27, 42, 28, 182, 0, 181, 153, 0, 9, 4, 28, 120]
abbrev dktX0_toldThings_0 : List UInt8 := dkwX0_toldThings_0 ++ dktX0_toldThings_1
theorem dksX0_toldThings_0 : cX0_toldThings.data.toList.drop 0 = dktX0_toldThings_0 := by decide +kernel
theorem dksX0_toldThings_1 : cX0_toldThings.data.toList.drop 22 = dktX0_toldThings_1 := dk_seg dksX0_toldThings_0 22 rfl rfl
theorem dX0_toldThings_0 : decode cX0_toldThings 0 = .ok (.iconst 0, 1) := dk_3 (dk_at dksX0_toldThings_0 0 rfl rfl)
theorem dX0_toldThings_1 : decode cX0_toldThings 1 = .ok (.istore_n 1, 1) := dk_60 (dk_at dksX0_toldThings_0 1 rfl rfl)
theorem dX0_toldThings_2 : decode cX0_toldThings 2 = .ok (.iconst 0, 1) := dk_3 (dk_at dksX0_toldThings_0 2 rfl rfl)
theorem dX0_toldThings_3 : decode cX0_toldThings 3 = .ok (.istore_n 2, 1) := dk_61 (dk_at dksX0_toldThings_0 3 rfl rfl)
theorem dX0_toldThings_4 : decode cX0_toldThings 4 = .ok (.iload_n 2, 1) := dk_28 (dk_at dksX0_toldThings_0 4 rfl rfl)
theorem dX0_toldThings_5 : decode cX0_toldThings 5 = .ok (.bipush 24, 2) := dk_16 24 (dk_at dksX0_toldThings_0 5 rfl rfl)
theorem dX0_toldThings_7 : decode cX0_toldThings 7 = .ok (.if_icmp .ge 27, 3) := dk_162 0 27 (dk_at dksX0_toldThings_0 7 rfl rfl)
theorem dX0_toldThings_10 : decode cX0_toldThings 10 = .ok (.iload_n 1, 1) := dk_27 (dk_at dksX0_toldThings_0 10 rfl rfl)
theorem dX0_toldThings_11 : decode cX0_toldThings 11 = .ok (.aload_n 0, 1) := dk_42 (dk_at dksX0_toldThings_0 11 rfl rfl)
theorem dX0_toldThings_12 : decode cX0_toldThings 12 = .ok (.iload_n 2, 1) := dk_28 (dk_at dksX0_toldThings_0 12 rfl rfl)
theorem dX0_toldThings_13 : decode cX0_toldThings 13 = .ok (.invokevirtual 181, 3) := dk_182 0 181 (dk_at dksX0_toldThings_0 13 rfl rfl)
theorem dX0_toldThings_16 : decode cX0_toldThings 16 = .ok (.ifCond .eq 9, 3) := dk_153 0 9 (dk_at dksX0_toldThings_0 16 rfl rfl)
theorem dX0_toldThings_19 : decode cX0_toldThings 19 = .ok (.iconst 1, 1) := dk_4 (dk_at dksX0_toldThings_0 19 rfl rfl)
theorem dX0_toldThings_20 : decode cX0_toldThings 20 = .ok (.iload_n 2, 1) := dk_28 (dk_at dksX0_toldThings_0 20 rfl rfl)
theorem dX0_toldThings_21 : decode cX0_toldThings 21 = .ok (.ishl, 1) := dk_120 (dk_at dksX0_toldThings_0 21 rfl rfl)
theorem dX0_toldThings_22 : decode cX0_toldThings 22 = .ok (.goto 4, 3) := dk_167 0 4 (dk_at dksX0_toldThings_1 0 rfl rfl)
theorem dX0_toldThings_25 : decode cX0_toldThings 25 = .ok (.iconst 0, 1) := dk_3 (dk_at dksX0_toldThings_1 3 rfl rfl)
theorem dX0_toldThings_26 : decode cX0_toldThings 26 = .ok (.ior, 1) := dk_128 (dk_at dksX0_toldThings_1 4 rfl rfl)
theorem dX0_toldThings_27 : decode cX0_toldThings 27 = .ok (.istore_n 1, 1) := dk_60 (dk_at dksX0_toldThings_1 5 rfl rfl)
theorem dX0_toldThings_28 : decode cX0_toldThings 28 = .ok (.iinc 2 1, 3) := dk_132 2 1 (dk_at dksX0_toldThings_1 6 rfl rfl)
theorem dX0_toldThings_31 : decode cX0_toldThings 31 = .ok (.goto (-27), 3) := dk_167 255 229 (dk_at dksX0_toldThings_1 9 rfl rfl)
theorem dX0_toldThings_34 : decode cX0_toldThings 34 = .ok (.iload_n 1, 1) := dk_27 (dk_at dksX0_toldThings_1 12 rfl rfl)
theorem dX0_toldThings_35 : decode cX0_toldThings 35 = .ok (.ireturn, 1) := dk_172 (dk_at dksX0_toldThings_1 13 rfl rfl)
theorem q114 : (Jvm.Cond.initialized "InsuredFlame") ∈ lw_all := lw_g (lw_at lw_m1 1 rfl) rfl
theorem q141 : (Jvm.Cond.instantiable "InsuredFlame" (17 : Nat)) ∈ lw_all := lw_g (lw_at lw_m1 28 rfl) rfl
theorem q143 : (Jvm.Cond.instanceMethod ({ cls := "InsuredFlame", name := "<init>", desc := "()V" } : Jvm.MethodName)) ∈ lw_all := lw_g (lw_at lw_m1 30 rfl) rfl
theorem q144 : (Jvm.Cond.code ({ cls := "InsuredFlame", name := "<init>", desc := "()V" } : Jvm.MethodName) prog_1_method_7_code (1 : Nat) (Option.none : Option Jvm.ClassFile.FieldType)) ∈ lw_all := lw_g (lw_at lw_m1 31 rfl) rfl
theorem q145 : (Jvm.Cond.methodLink "InsuredFlame" (26 : Nat) ({ cls := "java/lang/Object", name := "<init>", desc := "()V" } : Jvm.MethodName)) ∈ lw_all := lw_g (lw_at lw_m1 32 rfl) rfl
theorem q148 : (Jvm.Cond.classLink "InsuredFlame" (35 : Nat) "InsuredFlame$Moment") ∈ lw_all := lw_g (lw_at lw_m1 35 rfl) rfl
theorem q150 : (Jvm.Cond.methodLinkNest "InsuredFlame" (37 : Nat) ({ cls := "InsuredFlame$Moment", name := "<init>", desc := "()V" } : Jvm.MethodName) "InsuredFlame") ∈ lw_tbl := lw_at lw_m1 37 rfl
theorem q191 : (Jvm.Cond.classLink "InsuredFlame" (42 : Nat) "InsuredFlame$Fire") ∈ lw_all := lw_g (lw_at lw_m1 78 rfl) rfl
theorem q193 : (Jvm.Cond.methodLink "InsuredFlame" (44 : Nat) ({ cls := "InsuredFlame$Fire", name := "<init>", desc := "(LInsuredFlame;)V" } : Jvm.MethodName)) ∈ lw_all := lw_g (lw_at lw_m1 80 rfl) rfl
theorem q206 : (Jvm.Cond.fieldLinkNest "InsuredFlame" (185 : Nat) "InsuredFlame$Thing" "place" "I" "InsuredFlame") ∈ lw_tbl := lw_at lw_m1 93 rfl
theorem q210 : (Jvm.Cond.fieldLinkNest "InsuredFlame" (188 : Nat) "InsuredFlame$Thing" "value" "I" "InsuredFlame") ∈ lw_tbl := lw_at lw_m1 97 rfl
theorem q214 : (Jvm.Cond.fieldLinkNest "InsuredFlame" (191 : Nat) "InsuredFlame$Thing" "sum" "I" "InsuredFlame") ∈ lw_tbl := lw_at lw_m1 101 rfl
theorem q217 : (Jvm.Cond.fieldLinkNest "InsuredFlame" (100 : Nat) "InsuredFlame$Thing" "isTold" "Z" "InsuredFlame") ∈ lw_tbl := lw_at lw_m1 104 rfl
theorem q222 : (Jvm.Cond.fieldLinkNest "InsuredFlame" (194 : Nat) "InsuredFlame$Thing" "isGone" "Z" "InsuredFlame") ∈ lw_tbl := lw_at lw_m1 109 rfl
theorem q237 : (Jvm.Cond.fieldLinkNest "InsuredFlame" (158 : Nat) "InsuredFlame$Fire" "status" "[I" "InsuredFlame") ∈ lw_tbl := lw_at lw_m1 124 rfl
theorem q239 : (Jvm.Cond.fieldLinkNest "InsuredFlame" (172 : Nat) "InsuredFlame$Fire" "left" "[I" "InsuredFlame") ∈ lw_tbl := lw_at lw_m1 126 rfl
theorem q243 : (Jvm.Cond.fieldLinkNest "InsuredFlame" (96 : Nat) "InsuredFlame$Fire" "things" "[LInsuredFlame$Thing;" "InsuredFlame") ∈ lw_tbl := lw_at lw_m1 130 rfl
theorem q246 : (Jvm.Cond.fieldLinkNest "InsuredFlame" (287 : Nat) "InsuredFlame$Fire" "wind" "I" "InsuredFlame") ∈ lw_tbl := lw_at lw_m1 133 rfl
theorem q248 : (Jvm.Cond.fieldLinkNest "InsuredFlame" (200 : Nat) "InsuredFlame$Fire" "minute" "I" "InsuredFlame") ∈ lw_tbl := lw_at lw_m1 135 rfl
theorem q250 : (Jvm.Cond.fieldLinkNest "InsuredFlame" (92 : Nat) "InsuredFlame$Fire" "x" "I" "InsuredFlame") ∈ lw_tbl := lw_at lw_m1 137 rfl
theorem q269 : (Jvm.Cond.classLink "InsuredFlame" (61 : Nat) "InsuredFlame$Text") ∈ lw_all := lw_g (lw_at lw_m1 156 rfl) rfl
theorem q271 : (Jvm.Cond.methodLinkNest "InsuredFlame" (63 : Nat) ({ cls := "InsuredFlame$Text", name := "<init>", desc := "()V" } : Jvm.MethodName) "InsuredFlame") ∈ lw_tbl := lw_at lw_m1 158 rfl
theorem q287 : (Jvm.Cond.fieldLinkNest "InsuredFlame" (290 : Nat) "InsuredFlame$Text" "many" "I" "InsuredFlame") ∈ lw_tbl := lw_at lw_m1 174 rfl
theorem q298 : (Jvm.Cond.classLink "InsuredFlame" (71 : Nat) "[[Z") ∈ lw_all := lw_g (lw_at lw_m1 185 rfl) rfl
theorem q302 : (Jvm.Cond.fieldLink "InsuredFlame" (32 : Nat) "InsuredFlame" "kinds" "[I") ∈ lw_all := lw_g (lw_at lw_m1 189 rfl) rfl
theorem q303 : (Jvm.Cond.fieldLink "InsuredFlame" (38 : Nat) "InsuredFlame" "moment" "LInsuredFlame$Moment;") ∈ lw_all := lw_g (lw_at lw_m1 190 rfl) rfl
theorem q305 : (Jvm.Cond.fieldLink "InsuredFlame" (47 : Nat) "InsuredFlame" "fire" "LInsuredFlame$Fire;") ∈ lw_all := lw_g (lw_at lw_m1 192 rfl) rfl
theorem q307 : (Jvm.Cond.fieldLink "InsuredFlame" (51 : Nat) "InsuredFlame" "then" "LInsuredFlame$Fire;") ∈ lw_all := lw_g (lw_at lw_m1 194 rfl) rfl
theorem q308 : (Jvm.Cond.fieldLink "InsuredFlame" (54 : Nat) "InsuredFlame" "kept" "LInsuredFlame$Fire;") ∈ lw_all := lw_g (lw_at lw_m1 195 rfl) rfl
theorem q311 : (Jvm.Cond.fieldLink "InsuredFlame" (57 : Nat) "InsuredFlame" "tape" "[B") ∈ lw_all := lw_g (lw_at lw_m1 198 rfl) rfl
theorem q312 : (Jvm.Cond.fieldLink "InsuredFlame" (64 : Nat) "InsuredFlame" "law" "LInsuredFlame$Text;") ∈ lw_all := lw_g (lw_at lw_m1 199 rfl) rfl
theorem q314 : (Jvm.Cond.fieldLink "InsuredFlame" (106 : Nat) "InsuredFlame" "taped" "I") ∈ lw_all := lw_g (lw_at lw_m1 201 rfl) rfl
theorem q315 : (Jvm.Cond.fieldLink "InsuredFlame" (281 : Nat) "InsuredFlame" "isKept" "Z") ∈ lw_all := lw_g (lw_at lw_m1 202 rfl) rfl
theorem q316 : (Jvm.Cond.fieldLink "InsuredFlame" (68 : Nat) "InsuredFlame" "sure" "[I") ∈ lw_all := lw_g (lw_at lw_m1 203 rfl) rfl
theorem q317 : (Jvm.Cond.fieldLink "InsuredFlame" (73 : Nat) "InsuredFlame" "goesOn" "[[Z") ∈ lw_all := lw_g (lw_at lw_m1 204 rfl) rfl
theorem q318 : (Jvm.Cond.fieldLink "InsuredFlame" (76 : Nat) "InsuredFlame" "goesThrough" "[Z") ∈ lw_all := lw_g (lw_at lw_m1 205 rfl) rfl
theorem q319 : (Jvm.Cond.fieldLink "InsuredFlame" (80 : Nat) "InsuredFlame" "by" "[I") ∈ lw_all := lw_g (lw_at lw_m1 206 rfl) rfl
theorem q320 : (Jvm.Cond.fieldLink "InsuredFlame" (83 : Nat) "InsuredFlame" "queue" "[I") ∈ lw_all := lw_g (lw_at lw_m1 207 rfl) rfl
theorem q321 : (Jvm.Cond.fieldLink "InsuredFlame" (222 : Nat) "InsuredFlame" "queued" "I") ∈ lw_all := lw_g (lw_at lw_m1 208 rfl) rfl
theorem q322 : (Jvm.Cond.fieldLink "InsuredFlame" (86 : Nat) "InsuredFlame" "gone" "[I") ∈ lw_all := lw_g (lw_at lw_m1 209 rfl) rfl
theorem q323 : (Jvm.Cond.fieldLink "InsuredFlame" (89 : Nat) "InsuredFlame" "order" "[I") ∈ lw_all := lw_g (lw_at lw_m1 210 rfl) rfl
theorem q324 : (Jvm.Cond.laysFinal "InsuredFlame" "InsuredFlame" "kinds" "[I") ∈ lw_all := lw_g (lw_at lw_m1 211 rfl) rfl
theorem q325 : (Jvm.Cond.soleField "InsuredFlame" "kinds") ∈ lw_all := lw_g (lw_at lw_m1 212 rfl) rfl
theorem q326 : (Jvm.Cond.laysFinal "InsuredFlame" "InsuredFlame" "moment" "LInsuredFlame$Moment;") ∈ lw_all := lw_g (lw_at lw_m1 213 rfl) rfl
theorem q327 : (Jvm.Cond.soleField "InsuredFlame" "moment") ∈ lw_all := lw_g (lw_at lw_m1 214 rfl) rfl
theorem q328 : (Jvm.Cond.laysFinal "InsuredFlame" "InsuredFlame" "fire" "LInsuredFlame$Fire;") ∈ lw_all := lw_g (lw_at lw_m1 215 rfl) rfl
theorem q329 : (Jvm.Cond.soleField "InsuredFlame" "fire") ∈ lw_all := lw_g (lw_at lw_m1 216 rfl) rfl
theorem q330 : (Jvm.Cond.laysFinal "InsuredFlame" "InsuredFlame" "then" "LInsuredFlame$Fire;") ∈ lw_all := lw_g (lw_at lw_m1 217 rfl) rfl
theorem q331 : (Jvm.Cond.soleField "InsuredFlame" "then") ∈ lw_all := lw_g (lw_at lw_m1 218 rfl) rfl
theorem q332 : (Jvm.Cond.laysFinal "InsuredFlame" "InsuredFlame" "kept" "LInsuredFlame$Fire;") ∈ lw_all := lw_g (lw_at lw_m1 219 rfl) rfl
theorem q333 : (Jvm.Cond.soleField "InsuredFlame" "kept") ∈ lw_all := lw_g (lw_at lw_m1 220 rfl) rfl
theorem q334 : (Jvm.Cond.laysFinal "InsuredFlame" "InsuredFlame" "tape" "[B") ∈ lw_all := lw_g (lw_at lw_m1 221 rfl) rfl
theorem q335 : (Jvm.Cond.soleField "InsuredFlame" "tape") ∈ lw_all := lw_g (lw_at lw_m1 222 rfl) rfl
theorem q336 : (Jvm.Cond.lays "InsuredFlame" "InsuredFlame" "law" "LInsuredFlame$Text;") ∈ lw_all := lw_g (lw_at lw_m1 223 rfl) rfl
theorem q337 : (Jvm.Cond.soleField "InsuredFlame" "law") ∈ lw_all := lw_g (lw_at lw_m1 224 rfl) rfl
theorem q338 : (Jvm.Cond.lays "InsuredFlame" "InsuredFlame" "taped" "I") ∈ lw_all := lw_g (lw_at lw_m1 225 rfl) rfl
theorem q339 : (Jvm.Cond.soleField "InsuredFlame" "taped") ∈ lw_all := lw_g (lw_at lw_m1 226 rfl) rfl
theorem q340 : (Jvm.Cond.lays "InsuredFlame" "InsuredFlame" "isKept" "Z") ∈ lw_all := lw_g (lw_at lw_m1 227 rfl) rfl
theorem q341 : (Jvm.Cond.soleField "InsuredFlame" "isKept") ∈ lw_all := lw_g (lw_at lw_m1 228 rfl) rfl
theorem q342 : (Jvm.Cond.laysFinal "InsuredFlame" "InsuredFlame" "sure" "[I") ∈ lw_all := lw_g (lw_at lw_m1 229 rfl) rfl
theorem q343 : (Jvm.Cond.soleField "InsuredFlame" "sure") ∈ lw_all := lw_g (lw_at lw_m1 230 rfl) rfl
theorem q344 : (Jvm.Cond.laysFinal "InsuredFlame" "InsuredFlame" "goesOn" "[[Z") ∈ lw_all := lw_g (lw_at lw_m1 231 rfl) rfl
theorem q345 : (Jvm.Cond.soleField "InsuredFlame" "goesOn") ∈ lw_all := lw_g (lw_at lw_m1 232 rfl) rfl
theorem q346 : (Jvm.Cond.laysFinal "InsuredFlame" "InsuredFlame" "goesThrough" "[Z") ∈ lw_all := lw_g (lw_at lw_m1 233 rfl) rfl
theorem q347 : (Jvm.Cond.soleField "InsuredFlame" "goesThrough") ∈ lw_all := lw_g (lw_at lw_m1 234 rfl) rfl
theorem q348 : (Jvm.Cond.laysFinal "InsuredFlame" "InsuredFlame" "by" "[I") ∈ lw_all := lw_g (lw_at lw_m1 235 rfl) rfl
theorem q349 : (Jvm.Cond.soleField "InsuredFlame" "by") ∈ lw_all := lw_g (lw_at lw_m1 236 rfl) rfl
theorem q350 : (Jvm.Cond.laysFinal "InsuredFlame" "InsuredFlame" "queue" "[I") ∈ lw_all := lw_g (lw_at lw_m1 237 rfl) rfl
theorem q351 : (Jvm.Cond.soleField "InsuredFlame" "queue") ∈ lw_all := lw_g (lw_at lw_m1 238 rfl) rfl
theorem q352 : (Jvm.Cond.lays "InsuredFlame" "InsuredFlame" "queued" "I") ∈ lw_all := lw_g (lw_at lw_m1 239 rfl) rfl
theorem q353 : (Jvm.Cond.soleField "InsuredFlame" "queued") ∈ lw_all := lw_g (lw_at lw_m2 0 rfl) rfl
theorem q354 : (Jvm.Cond.laysFinal "InsuredFlame" "InsuredFlame" "gone" "[I") ∈ lw_all := lw_g (lw_at lw_m2 1 rfl) rfl
theorem q355 : (Jvm.Cond.soleField "InsuredFlame" "gone") ∈ lw_all := lw_g (lw_at lw_m2 2 rfl) rfl
theorem q356 : (Jvm.Cond.laysFinal "InsuredFlame" "InsuredFlame" "order" "[I") ∈ lw_all := lw_g (lw_at lw_m2 3 rfl) rfl
theorem q357 : (Jvm.Cond.soleField "InsuredFlame" "order") ∈ lw_all := lw_g (lw_at lw_m2 4 rfl) rfl
theorem q358 : (Jvm.Cond.superclass "InsuredFlame" "java/lang/Object") ∈ lw_all := lw_g (lw_at lw_m2 5 rfl) rfl
theorem q360 : (Jvm.Cond.instanceMethod ({ cls := "InsuredFlame", name := "feed", desc := "(IIIII)I" } : Jvm.MethodName)) ∈ lw_all := lw_g (lw_at lw_m2 7 rfl) rfl
theorem q361 : (Jvm.Cond.selects "InsuredFlame" ({ cls := "InsuredFlame", name := "feed", desc := "(IIIII)I" } : Jvm.MethodName) ({ cls := "InsuredFlame", name := "feed", desc := "(IIIII)I" } : Jvm.MethodName)) ∈ lw_all := lw_g (lw_at lw_m2 8 rfl) rfl
theorem q362 : (Jvm.Cond.code ({ cls := "InsuredFlame", name := "feed", desc := "(IIIII)I" } : Jvm.MethodName) prog_1_method_11_code (6 : Nat) (Option.some Jvm.ClassFile.FieldType.int)) ∈ lw_all := lw_g (lw_at lw_m2 9 rfl) rfl
theorem q363 : (Jvm.Cond.methodLink "InsuredFlame" (109 : Nat) ({ cls := "InsuredFlame", name := "push", desc := "(I)V" } : Jvm.MethodName)) ∈ lw_all := lw_g (lw_at lw_m2 10 rfl) rfl
theorem q364 : (Jvm.Cond.privateMethod ({ cls := "InsuredFlame", name := "push", desc := "(I)V" } : Jvm.MethodName)) ∈ lw_tbl := lw_at lw_m2 11 rfl
theorem q365 : (Jvm.Cond.instanceMethod ({ cls := "InsuredFlame", name := "push", desc := "(I)V" } : Jvm.MethodName)) ∈ lw_all := lw_g (lw_at lw_m2 12 rfl) rfl
theorem q366 : (Jvm.Cond.code ({ cls := "InsuredFlame", name := "push", desc := "(I)V" } : Jvm.MethodName) prog_1_method_10_code (3 : Nat) (Option.none : Option Jvm.ClassFile.FieldType)) ∈ lw_all := lw_g (lw_at lw_m2 13 rfl) rfl
theorem q368 : (Jvm.Cond.instanceMethod ({ cls := "InsuredFlame", name := "law", desc := "(I)I" } : Jvm.MethodName)) ∈ lw_all := lw_g (lw_at lw_m2 15 rfl) rfl
theorem q369 : (Jvm.Cond.selects "InsuredFlame" ({ cls := "InsuredFlame", name := "law", desc := "(I)I" } : Jvm.MethodName) ({ cls := "InsuredFlame", name := "law", desc := "(I)I" } : Jvm.MethodName)) ∈ lw_all := lw_g (lw_at lw_m2 16 rfl) rfl
theorem q370 : (Jvm.Cond.code ({ cls := "InsuredFlame", name := "law", desc := "(I)I" } : Jvm.MethodName) prog_1_method_12_code (4 : Nat) (Option.some Jvm.ClassFile.FieldType.int)) ∈ lw_all := lw_g (lw_at lw_m2 17 rfl) rfl
theorem q371 : (Jvm.Cond.methodLink "InsuredFlame" (113 : Nat) ({ cls := "InsuredFlame", name := "within", desc := "(III)Z" } : Jvm.MethodName)) ∈ lw_all := lw_g (lw_at lw_m2 18 rfl) rfl
theorem q372 : (Jvm.Cond.static ({ cls := "InsuredFlame", name := "within", desc := "(III)Z" } : Jvm.MethodName)) ∈ lw_all := lw_g (lw_at lw_m2 19 rfl) rfl
theorem q373 : (Jvm.Cond.code ({ cls := "InsuredFlame", name := "within", desc := "(III)Z" } : Jvm.MethodName) prog_1_method_2_code (3 : Nat) (Option.some Jvm.ClassFile.FieldType.boolean)) ∈ lw_all := lw_g (lw_at lw_m2 20 rfl) rfl
theorem q374 : (Jvm.Cond.classLink "InsuredFlame" (117 : Nat) "InsuredFlame$Reader") ∈ lw_all := lw_g (lw_at lw_m2 21 rfl) rfl
theorem q376 : (Jvm.Cond.methodLink "InsuredFlame" (119 : Nat) ({ cls := "InsuredFlame$Reader", name := "<init>", desc := "(LInsuredFlame;I)V" } : Jvm.MethodName)) ∈ lw_all := lw_g (lw_at lw_m2 23 rfl) rfl
theorem q384 : (Jvm.Cond.fieldLinkNest "InsuredFlame" (126 : Nat) "InsuredFlame$Reader" "text" "LInsuredFlame$Text;" "InsuredFlame") ∈ lw_tbl := lw_at lw_m2 31 rfl
theorem q405 : (Jvm.Cond.methodLink "InsuredFlame" (122 : Nat) ({ cls := "InsuredFlame$Reader", name := "read", desc := "()I" } : Jvm.MethodName)) ∈ lw_all := lw_g (lw_at lw_m2 52 rfl) rfl
theorem q640 : (Jvm.Cond.instanceMethod ({ cls := "InsuredFlame", name := "town", desc := "(I)I" } : Jvm.MethodName)) ∈ lw_all := lw_g (lw_at lw_m3 47 rfl) rfl
theorem q641 : (Jvm.Cond.selects "InsuredFlame" ({ cls := "InsuredFlame", name := "town", desc := "(I)I" } : Jvm.MethodName) ({ cls := "InsuredFlame", name := "town", desc := "(I)I" } : Jvm.MethodName)) ∈ lw_all := lw_g (lw_at lw_m3 48 rfl) rfl
theorem q642 : (Jvm.Cond.code ({ cls := "InsuredFlame", name := "town", desc := "(I)I" } : Jvm.MethodName) prog_1_method_13_code (5 : Nat) (Option.some Jvm.ClassFile.FieldType.int)) ∈ lw_all := lw_g (lw_at lw_m3 49 rfl) rfl
theorem q643 : (Jvm.Cond.classLink "InsuredFlame" (129 : Nat) "InsuredFlame$Surveyor") ∈ lw_all := lw_g (lw_at lw_m3 50 rfl) rfl
theorem q645 : (Jvm.Cond.methodLink "InsuredFlame" (131 : Nat) ({ cls := "InsuredFlame$Surveyor", name := "<init>", desc := "(LInsuredFlame;I)V" } : Jvm.MethodName)) ∈ lw_all := lw_g (lw_at lw_m3 52 rfl) rfl
theorem q653 : (Jvm.Cond.fieldLinkNest "InsuredFlame" (133 : Nat) "InsuredFlame$Surveyor" "told" "[I" "InsuredFlame") ∈ lw_tbl := lw_at lw_m3 60 rfl
theorem q681 : (Jvm.Cond.methodLink "InsuredFlame" (132 : Nat) ({ cls := "InsuredFlame$Surveyor", name := "read", desc := "()I" } : Jvm.MethodName)) ∈ lw_all := lw_g (lw_at lw_m3 88 rfl) rfl
theorem q752 : (Jvm.Cond.methodLink "InsuredFlame" (136 : Nat) ({ cls := "InsuredFlame$Fire", name := "isNew", desc := "()V" } : Jvm.MethodName)) ∈ lw_all := lw_g (lw_at lw_m3 159 rfl) rfl
theorem q757 : (Jvm.Cond.instanceMethod ({ cls := "InsuredFlame", name := "orders", desc := "(I)I" } : Jvm.MethodName)) ∈ lw_all := lw_g (lw_at lw_m3 164 rfl) rfl
theorem q758 : (Jvm.Cond.selects "InsuredFlame" ({ cls := "InsuredFlame", name := "orders", desc := "(I)I" } : Jvm.MethodName) ({ cls := "InsuredFlame", name := "orders", desc := "(I)I" } : Jvm.MethodName)) ∈ lw_all := lw_g (lw_at lw_m3 165 rfl) rfl
theorem q759 : (Jvm.Cond.code ({ cls := "InsuredFlame", name := "orders", desc := "(I)I" } : Jvm.MethodName) prog_1_method_14_code (6 : Nat) (Option.some Jvm.ClassFile.FieldType.int)) ∈ lw_all := lw_g (lw_at lw_m3 166 rfl) rfl
theorem q760 : (Jvm.Cond.methodLink "InsuredFlame" (139 : Nat) ({ cls := "InsuredFlame$Fire", name := "takes", desc := "(LInsuredFlame$Fire;)LInsuredFlame$Fire;" } : Jvm.MethodName)) ∈ lw_all := lw_g (lw_at lw_m3 167 rfl) rfl
theorem q768 : (Jvm.Cond.classLink "InsuredFlame" (143 : Nat) "InsuredFlame$Clerk") ∈ lw_all := lw_g (lw_at lw_m3 175 rfl) rfl
theorem q770 : (Jvm.Cond.methodLink "InsuredFlame" (145 : Nat) ({ cls := "InsuredFlame$Clerk", name := "<init>", desc := "(LInsuredFlame;I)V" } : Jvm.MethodName)) ∈ lw_all := lw_g (lw_at lw_m3 177 rfl) rfl
theorem q775 : (Jvm.Cond.fieldLinkNest "InsuredFlame" (147 : Nat) "InsuredFlame$Clerk" "watered" "[Z" "InsuredFlame") ∈ lw_tbl := lw_at lw_m3 182 rfl
theorem q790 : (Jvm.Cond.methodLink "InsuredFlame" (146 : Nat) ({ cls := "InsuredFlame$Clerk", name := "read", desc := "()I" } : Jvm.MethodName)) ∈ lw_all := lw_g (lw_at lw_m3 197 rfl) rfl
theorem q851 : (Jvm.Cond.instanceMethod ({ cls := "InsuredFlame", name := "minutes", desc := "(I)I" } : Jvm.MethodName)) ∈ lw_all := lw_g (lw_at lw_m4 18 rfl) rfl
theorem q852 : (Jvm.Cond.selects "InsuredFlame" ({ cls := "InsuredFlame", name := "minutes", desc := "(I)I" } : Jvm.MethodName) ({ cls := "InsuredFlame", name := "minutes", desc := "(I)I" } : Jvm.MethodName)) ∈ lw_all := lw_g (lw_at lw_m4 19 rfl) rfl
theorem q853 : (Jvm.Cond.code ({ cls := "InsuredFlame", name := "minutes", desc := "(I)I" } : Jvm.MethodName) prog_1_method_15_code (2 : Nat) (Option.some Jvm.ClassFile.FieldType.int)) ∈ lw_all := lw_g (lw_at lw_m4 20 rfl) rfl
theorem q854 : (Jvm.Cond.methodLink "InsuredFlame" (150 : Nat) ({ cls := "InsuredFlame$Fire", name := "goes", desc := "(I)LInsuredFlame$Fire;" } : Jvm.MethodName)) ∈ lw_all := lw_g (lw_at lw_m4 21 rfl) rfl
theorem q875 : (Jvm.Cond.static ({ cls := "InsuredFlame", name := "next", desc := "(II)I" } : Jvm.MethodName)) ∈ lw_all := lw_g (lw_at lw_m4 42 rfl) rfl
theorem q876 : (Jvm.Cond.code ({ cls := "InsuredFlame", name := "next", desc := "(II)I" } : Jvm.MethodName) prog_1_method_6_code (2 : Nat) (Option.some Jvm.ClassFile.FieldType.int)) ∈ lw_all := lw_g (lw_at lw_m4 43 rfl) rfl
theorem q877 : (Jvm.Cond.fieldLink "InsuredFlame" (16 : Nat) "InsuredFlame" "OVER" "[I") ∈ lw_all := lw_g (lw_at lw_m4 44 rfl) rfl
theorem q878 : (Jvm.Cond.laysStatic "InsuredFlame" "OVER" "[I") ∈ lw_tbl := lw_at lw_m4 45 rfl
theorem q879 : (Jvm.Cond.fieldLink "InsuredFlame" (20 : Nat) "InsuredFlame" "DOWN" "[I") ∈ lw_all := lw_g (lw_at lw_m4 46 rfl) rfl
theorem q880 : (Jvm.Cond.laysStatic "InsuredFlame" "DOWN" "[I") ∈ lw_tbl := lw_at lw_m4 47 rfl
theorem q881 : (Jvm.Cond.methodLink "InsuredFlame" (23 : Nat) ({ cls := "InsuredFlame", name := "placeAt", desc := "(II)I" } : Jvm.MethodName)) ∈ lw_all := lw_g (lw_at lw_m4 48 rfl) rfl
theorem q882 : (Jvm.Cond.static ({ cls := "InsuredFlame", name := "placeAt", desc := "(II)I" } : Jvm.MethodName)) ∈ lw_all := lw_g (lw_at lw_m4 49 rfl) rfl
theorem q883 : (Jvm.Cond.code ({ cls := "InsuredFlame", name := "placeAt", desc := "(II)I" } : Jvm.MethodName) prog_1_method_5_code (2 : Nat) (Option.some Jvm.ClassFile.FieldType.int)) ∈ lw_all := lw_g (lw_at lw_m4 50 rfl) rfl
theorem q884 : (Jvm.Cond.methodLink "InsuredFlame" (12 : Nat) ({ cls := "InsuredFlame", name := "in", desc := "(II)Z" } : Jvm.MethodName)) ∈ lw_all := lw_g (lw_at lw_m4 51 rfl) rfl
theorem q885 : (Jvm.Cond.static ({ cls := "InsuredFlame", name := "in", desc := "(II)Z" } : Jvm.MethodName)) ∈ lw_all := lw_g (lw_at lw_m4 52 rfl) rfl
theorem q886 : (Jvm.Cond.code ({ cls := "InsuredFlame", name := "in", desc := "(II)Z" } : Jvm.MethodName) prog_1_method_1_code (2 : Nat) (Option.some Jvm.ClassFile.FieldType.boolean)) ∈ lw_all := lw_g (lw_at lw_m4 53 rfl) rfl
theorem q960 : (Jvm.Cond.static ({ cls := "InsuredFlame", name := "held", desc := "(II)I" } : Jvm.MethodName)) ∈ lw_all := lw_g (lw_at lw_m4 127 rfl) rfl
theorem q961 : (Jvm.Cond.code ({ cls := "InsuredFlame", name := "held", desc := "(II)I" } : Jvm.MethodName) prog_1_method_4_code (2 : Nat) (Option.some Jvm.ClassFile.FieldType.int)) ∈ lw_all := lw_g (lw_at lw_m4 128 rfl) rfl
theorem q962 : (Jvm.Cond.methodLink "InsuredFlame" (1 : Nat) ({ cls := "java/lang/Math", name := "min", desc := "(II)I" } : Jvm.MethodName)) ∈ lw_all := lw_g (lw_at lw_m4 129 rfl) rfl
theorem q963 : (Jvm.Cond.methodLink "InsuredFlame" (7 : Nat) ({ cls := "java/lang/Math", name := "max", desc := "(II)I" } : Jvm.MethodName)) ∈ lw_all := lw_g (lw_at lw_m4 130 rfl) rfl
theorem q975 : (Jvm.Cond.methodLink "InsuredFlame" (154 : Nat) ({ cls := "InsuredFlame$Fire", name := "those", desc := "(I)I" } : Jvm.MethodName)) ∈ lw_all := lw_g (lw_at lw_m4 142 rfl) rfl
theorem q980 : (Jvm.Cond.instanceMethod ({ cls := "InsuredFlame", name := "tried", desc := "(II)I" } : Jvm.MethodName)) ∈ lw_all := lw_g (lw_at lw_m4 147 rfl) rfl
theorem q981 : (Jvm.Cond.selects "InsuredFlame" ({ cls := "InsuredFlame", name := "tried", desc := "(II)I" } : Jvm.MethodName) ({ cls := "InsuredFlame", name := "tried", desc := "(II)I" } : Jvm.MethodName)) ∈ lw_all := lw_g (lw_at lw_m4 148 rfl) rfl
theorem q982 : (Jvm.Cond.code ({ cls := "InsuredFlame", name := "tried", desc := "(II)I" } : Jvm.MethodName) prog_1_method_17_code (3 : Nat) (Option.some Jvm.ClassFile.FieldType.int)) ∈ lw_all := lw_g (lw_at lw_m4 149 rfl) rfl
theorem q983 : (Jvm.Cond.methodLink "InsuredFlame" (164 : Nat) ({ cls := "InsuredFlame$Fire", name := "lost", desc := "()I" } : Jvm.MethodName)) ∈ lw_all := lw_g (lw_at lw_m4 150 rfl) rfl
theorem q987 : (Jvm.Cond.methodLink "InsuredFlame" (167 : Nat) ({ cls := "InsuredFlame$Fire", name := "gone", desc := "()I" } : Jvm.MethodName)) ∈ lw_all := lw_g (lw_at lw_m4 154 rfl) rfl
theorem q991 : (Jvm.Cond.methodLink "InsuredFlame" (169 : Nat) ({ cls := "InsuredFlame", name := "sumsLeft", desc := "()I" } : Jvm.MethodName)) ∈ lw_all := lw_g (lw_at lw_m4 158 rfl) rfl
theorem q992 : (Jvm.Cond.privateMethod ({ cls := "InsuredFlame", name := "sumsLeft", desc := "()I" } : Jvm.MethodName)) ∈ lw_tbl := lw_at lw_m4 159 rfl
theorem q993 : (Jvm.Cond.instanceMethod ({ cls := "InsuredFlame", name := "sumsLeft", desc := "()I" } : Jvm.MethodName)) ∈ lw_all := lw_g (lw_at lw_m4 160 rfl) rfl
theorem q994 : (Jvm.Cond.code ({ cls := "InsuredFlame", name := "sumsLeft", desc := "()I" } : Jvm.MethodName) prog_1_method_16_code (3 : Nat) (Option.some Jvm.ClassFile.FieldType.int)) ∈ lw_all := lw_g (lw_at lw_m4 161 rfl) rfl
theorem q995 : (Jvm.Cond.methodLink "InsuredFlame" (161 : Nat) ({ cls := "InsuredFlame$Fire", name := "sumsAt", desc := "(I)I" } : Jvm.MethodName)) ∈ lw_all := lw_g (lw_at lw_m4 162 rfl) rfl
theorem q997 : (Jvm.Cond.instanceMethod ({ cls := "InsuredFlame", name := "placeIs", desc := "(III)I" } : Jvm.MethodName)) ∈ lw_all := lw_g (lw_at lw_m4 164 rfl) rfl
theorem q998 : (Jvm.Cond.selects "InsuredFlame" ({ cls := "InsuredFlame", name := "placeIs", desc := "(III)I" } : Jvm.MethodName) ({ cls := "InsuredFlame", name := "placeIs", desc := "(III)I" } : Jvm.MethodName)) ∈ lw_all := lw_g (lw_at lw_m4 165 rfl) rfl
theorem q999 : (Jvm.Cond.code ({ cls := "InsuredFlame", name := "placeIs", desc := "(III)I" } : Jvm.MethodName) prog_1_method_18_code (5 : Nat) (Option.some Jvm.ClassFile.FieldType.int)) ∈ lw_all := lw_g (lw_at lw_m4 166 rfl) rfl
theorem q1000 : (Jvm.Cond.methodLink "InsuredFlame" (175 : Nat) ({ cls := "InsuredFlame$Fire", name := "thingsAt", desc := "(I)I" } : Jvm.MethodName)) ∈ lw_all := lw_g (lw_at lw_m4 167 rfl) rfl
theorem q1004 : (Jvm.Cond.methodLink "InsuredFlame" (178 : Nat) ({ cls := "InsuredFlame$Fire", name := "valueAt", desc := "(I)I" } : Jvm.MethodName)) ∈ lw_all := lw_g (lw_at lw_m4 171 rfl) rfl
theorem q1006 : (Jvm.Cond.instanceMethod ({ cls := "InsuredFlame", name := "thingIs", desc := "(II)I" } : Jvm.MethodName)) ∈ lw_all := lw_g (lw_at lw_m4 173 rfl) rfl
theorem q1007 : (Jvm.Cond.selects "InsuredFlame" ({ cls := "InsuredFlame", name := "thingIs", desc := "(II)I" } : Jvm.MethodName) ({ cls := "InsuredFlame", name := "thingIs", desc := "(II)I" } : Jvm.MethodName)) ∈ lw_all := lw_g (lw_at lw_m4 174 rfl) rfl
theorem q1008 : (Jvm.Cond.code ({ cls := "InsuredFlame", name := "thingIs", desc := "(II)I" } : Jvm.MethodName) prog_1_method_19_code (4 : Nat) (Option.some Jvm.ClassFile.FieldType.int)) ∈ lw_all := lw_g (lw_at lw_m4 175 rfl) rfl
theorem q1009 : (Jvm.Cond.methodLink "InsuredFlame" (181 : Nat) ({ cls := "InsuredFlame", name := "isThing", desc := "(I)Z" } : Jvm.MethodName)) ∈ lw_all := lw_g (lw_at lw_m4 176 rfl) rfl
theorem q1010 : (Jvm.Cond.privateMethod ({ cls := "InsuredFlame", name := "isThing", desc := "(I)Z" } : Jvm.MethodName)) ∈ lw_tbl := lw_at lw_m4 177 rfl
theorem q1011 : (Jvm.Cond.instanceMethod ({ cls := "InsuredFlame", name := "isThing", desc := "(I)Z" } : Jvm.MethodName)) ∈ lw_all := lw_g (lw_at lw_m4 178 rfl) rfl
theorem q1012 : (Jvm.Cond.code ({ cls := "InsuredFlame", name := "isThing", desc := "(I)Z" } : Jvm.MethodName) prog_1_method_9_code (2 : Nat) (Option.some Jvm.ClassFile.FieldType.boolean)) ∈ lw_all := lw_g (lw_at lw_m4 179 rfl) rfl
theorem q1013 : (Jvm.Cond.methodLink "InsuredFlame" (197 : Nat) ({ cls := "InsuredFlame$Thing", name := "paid", desc := "()I" } : Jvm.MethodName)) ∈ lw_all := lw_g (lw_at lw_m4 180 rfl) rfl
theorem q1018 : (Jvm.Cond.instanceMethod ({ cls := "InsuredFlame", name := "comes", desc := "(III)I" } : Jvm.MethodName)) ∈ lw_all := lw_g (lw_at lw_m4 185 rfl) rfl
theorem q1019 : (Jvm.Cond.selects "InsuredFlame" ({ cls := "InsuredFlame", name := "comes", desc := "(III)I" } : Jvm.MethodName) ({ cls := "InsuredFlame", name := "comes", desc := "(III)I" } : Jvm.MethodName)) ∈ lw_all := lw_g (lw_at lw_m4 186 rfl) rfl
theorem q1020 : (Jvm.Cond.code ({ cls := "InsuredFlame", name := "comes", desc := "(III)I" } : Jvm.MethodName) prog_1_method_20_code (6 : Nat) (Option.some Jvm.ClassFile.FieldType.int)) ∈ lw_all := lw_g (lw_at lw_m4 187 rfl) rfl
theorem q1021 : (Jvm.Cond.methodLink "InsuredFlame" (203 : Nat) ({ cls := "InsuredFlame$Fire", name := "minuteGoes", desc := "()V" } : Jvm.MethodName)) ∈ lw_all := lw_g (lw_at lw_m4 188 rfl) rfl
theorem q1023 : (Jvm.Cond.instanceMethod ({ cls := "InsuredFlame", name := "over", desc := "(I)I" } : Jvm.MethodName)) ∈ lw_all := lw_g (lw_at lw_m4 190 rfl) rfl
theorem q1024 : (Jvm.Cond.selects "InsuredFlame" ({ cls := "InsuredFlame", name := "over", desc := "(I)I" } : Jvm.MethodName) ({ cls := "InsuredFlame", name := "over", desc := "(I)I" } : Jvm.MethodName)) ∈ lw_all := lw_g (lw_at lw_m4 191 rfl) rfl
theorem q1025 : (Jvm.Cond.code ({ cls := "InsuredFlame", name := "over", desc := "(I)I" } : Jvm.MethodName) prog_1_method_21_code (3 : Nat) (Option.some Jvm.ClassFile.FieldType.int)) ∈ lw_all := lw_g (lw_at lw_m4 192 rfl) rfl
theorem q1027 : (Jvm.Cond.instanceMethod ({ cls := "InsuredFlame", name := "steps", desc := "(II)I" } : Jvm.MethodName)) ∈ lw_all := lw_g (lw_at lw_m4 194 rfl) rfl
theorem q1028 : (Jvm.Cond.selects "InsuredFlame" ({ cls := "InsuredFlame", name := "steps", desc := "(II)I" } : Jvm.MethodName) ({ cls := "InsuredFlame", name := "steps", desc := "(II)I" } : Jvm.MethodName)) ∈ lw_all := lw_g (lw_at lw_m4 195 rfl) rfl
theorem q1029 : (Jvm.Cond.code ({ cls := "InsuredFlame", name := "steps", desc := "(II)I" } : Jvm.MethodName) prog_1_method_25_code (3 : Nat) (Option.some Jvm.ClassFile.FieldType.int)) ∈ lw_all := lw_g (lw_at lw_m4 196 rfl) rfl
theorem q1030 : (Jvm.Cond.methodLink "InsuredFlame" (213 : Nat) ({ cls := "InsuredFlame", name := "isWood", desc := "(I)Z" } : Jvm.MethodName)) ∈ lw_all := lw_g (lw_at lw_m4 197 rfl) rfl
theorem q1031 : (Jvm.Cond.privateMethod ({ cls := "InsuredFlame", name := "isWood", desc := "(I)Z" } : Jvm.MethodName)) ∈ lw_tbl := lw_at lw_m4 198 rfl
theorem q1032 : (Jvm.Cond.instanceMethod ({ cls := "InsuredFlame", name := "isWood", desc := "(I)Z" } : Jvm.MethodName)) ∈ lw_all := lw_g (lw_at lw_m4 199 rfl) rfl
theorem q1033 : (Jvm.Cond.code ({ cls := "InsuredFlame", name := "isWood", desc := "(I)Z" } : Jvm.MethodName) prog_1_method_8_code (2 : Nat) (Option.some Jvm.ClassFile.FieldType.boolean)) ∈ lw_all := lw_g (lw_at lw_m4 200 rfl) rfl
theorem q1034 : (Jvm.Cond.methodLink "InsuredFlame" (216 : Nat) ({ cls := "InsuredFlame", name := "laysFrom", desc := "(I)V" } : Jvm.MethodName)) ∈ lw_all := lw_g (lw_at lw_m4 201 rfl) rfl
theorem q1035 : (Jvm.Cond.privateMethod ({ cls := "InsuredFlame", name := "laysFrom", desc := "(I)V" } : Jvm.MethodName)) ∈ lw_tbl := lw_at lw_m4 202 rfl
theorem q1036 : (Jvm.Cond.instanceMethod ({ cls := "InsuredFlame", name := "laysFrom", desc := "(I)V" } : Jvm.MethodName)) ∈ lw_all := lw_g (lw_at lw_m4 203 rfl) rfl
theorem q1037 : (Jvm.Cond.code ({ cls := "InsuredFlame", name := "laysFrom", desc := "(I)V" } : Jvm.MethodName) prog_1_method_23_code (3 : Nat) (Option.none : Option Jvm.ClassFile.FieldType)) ∈ lw_all := lw_g (lw_at lw_m4 204 rfl) rfl
theorem q1038 : (Jvm.Cond.constant "InsuredFlame" (209 : Nat) (268435456 : Int32)) ∈ lw_all := lw_g (lw_at lw_m4 205 rfl) rfl
theorem q1039 : (Jvm.Cond.methodLink "InsuredFlame" (210 : Nat) ({ cls := "InsuredFlame", name := "spreads", desc := "()V" } : Jvm.MethodName)) ∈ lw_all := lw_g (lw_at lw_m4 206 rfl) rfl
theorem q1040 : (Jvm.Cond.privateMethod ({ cls := "InsuredFlame", name := "spreads", desc := "()V" } : Jvm.MethodName)) ∈ lw_tbl := lw_at lw_m4 207 rfl
theorem q1041 : (Jvm.Cond.instanceMethod ({ cls := "InsuredFlame", name := "spreads", desc := "()V" } : Jvm.MethodName)) ∈ lw_all := lw_g (lw_at lw_m4 208 rfl) rfl
theorem q1042 : (Jvm.Cond.code ({ cls := "InsuredFlame", name := "spreads", desc := "()V" } : Jvm.MethodName) prog_1_method_22_code (6 : Nat) (Option.none : Option Jvm.ClassFile.FieldType)) ∈ lw_all := lw_g (lw_at lw_m4 209 rfl) rfl
theorem q1043 : (Jvm.Cond.methodLink "InsuredFlame" (206 : Nat) ({ cls := "InsuredFlame", name := "next", desc := "(II)I" } : Jvm.MethodName)) ∈ lw_all := lw_g (lw_at lw_m4 210 rfl) rfl
theorem q1045 : (Jvm.Cond.instanceMethod ({ cls := "InsuredFlame", name := "began", desc := "(II)I" } : Jvm.MethodName)) ∈ lw_all := lw_g (lw_at lw_m4 212 rfl) rfl
theorem q1046 : (Jvm.Cond.selects "InsuredFlame" ({ cls := "InsuredFlame", name := "began", desc := "(II)I" } : Jvm.MethodName) ({ cls := "InsuredFlame", name := "began", desc := "(II)I" } : Jvm.MethodName)) ∈ lw_all := lw_g (lw_at lw_m4 213 rfl) rfl
theorem q1047 : (Jvm.Cond.code ({ cls := "InsuredFlame", name := "began", desc := "(II)I" } : Jvm.MethodName) prog_1_method_27_code (6 : Nat) (Option.some Jvm.ClassFile.FieldType.int)) ∈ lw_all := lw_g (lw_at lw_m4 214 rfl) rfl
theorem q1048 : (Jvm.Cond.methodLink "InsuredFlame" (219 : Nat) ({ cls := "InsuredFlame", name := "isSo", desc := "(I)Z" } : Jvm.MethodName)) ∈ lw_all := lw_g (lw_at lw_m4 215 rfl) rfl
theorem q1049 : (Jvm.Cond.privateMethod ({ cls := "InsuredFlame", name := "isSo", desc := "(I)Z" } : Jvm.MethodName)) ∈ lw_tbl := lw_at lw_m4 216 rfl
theorem q1050 : (Jvm.Cond.instanceMethod ({ cls := "InsuredFlame", name := "isSo", desc := "(I)Z" } : Jvm.MethodName)) ∈ lw_all := lw_g (lw_at lw_m4 217 rfl) rfl
theorem q1051 : (Jvm.Cond.code ({ cls := "InsuredFlame", name := "isSo", desc := "(I)Z" } : Jvm.MethodName) prog_1_method_26_code (3 : Nat) (Option.some Jvm.ClassFile.FieldType.boolean)) ∈ lw_all := lw_g (lw_at lw_m4 218 rfl) rfl
theorem q1053 : (Jvm.Cond.instanceMethod ({ cls := "InsuredFlame", name := "breaks", desc := "(II)I" } : Jvm.MethodName)) ∈ lw_all := lw_g (lw_at lw_m4 220 rfl) rfl
theorem q1054 : (Jvm.Cond.selects "InsuredFlame" ({ cls := "InsuredFlame", name := "breaks", desc := "(II)I" } : Jvm.MethodName) ({ cls := "InsuredFlame", name := "breaks", desc := "(II)I" } : Jvm.MethodName)) ∈ lw_all := lw_g (lw_at lw_m4 221 rfl) rfl
theorem q1055 : (Jvm.Cond.code ({ cls := "InsuredFlame", name := "breaks", desc := "(II)I" } : Jvm.MethodName) prog_1_method_33_code (5 : Nat) (Option.some Jvm.ClassFile.FieldType.int)) ∈ lw_all := lw_g (lw_at lw_m4 222 rfl) rfl
theorem q1056 : (Jvm.Cond.methodLink "InsuredFlame" (235 : Nat) ({ cls := "InsuredFlame", name := "finds", desc := "(II)Z" } : Jvm.MethodName)) ∈ lw_all := lw_g (lw_at lw_m4 223 rfl) rfl
theorem q1057 : (Jvm.Cond.privateMethod ({ cls := "InsuredFlame", name := "finds", desc := "(II)Z" } : Jvm.MethodName)) ∈ lw_tbl := lw_at lw_m4 224 rfl
theorem q1058 : (Jvm.Cond.instanceMethod ({ cls := "InsuredFlame", name := "finds", desc := "(II)Z" } : Jvm.MethodName)) ∈ lw_all := lw_g (lw_at lw_m4 225 rfl) rfl
theorem q1059 : (Jvm.Cond.code ({ cls := "InsuredFlame", name := "finds", desc := "(II)Z" } : Jvm.MethodName) prog_1_method_30_code (4 : Nat) (Option.some Jvm.ClassFile.FieldType.boolean)) ∈ lw_all := lw_g (lw_at lw_m4 226 rfl) rfl
theorem q1060 : (Jvm.Cond.methodLink "InsuredFlame" (225 : Nat) ({ cls := "InsuredFlame", name := "reaches", desc := "(II)V" } : Jvm.MethodName)) ∈ lw_all := lw_g (lw_at lw_m4 227 rfl) rfl
theorem q1061 : (Jvm.Cond.privateMethod ({ cls := "InsuredFlame", name := "reaches", desc := "(II)V" } : Jvm.MethodName)) ∈ lw_tbl := lw_at lw_m4 228 rfl
theorem q1062 : (Jvm.Cond.instanceMethod ({ cls := "InsuredFlame", name := "reaches", desc := "(II)V" } : Jvm.MethodName)) ∈ lw_all := lw_g (lw_at lw_m4 229 rfl) rfl
theorem q1063 : (Jvm.Cond.code ({ cls := "InsuredFlame", name := "reaches", desc := "(II)V" } : Jvm.MethodName) prog_1_method_28_code (3 : Nat) (Option.none : Option Jvm.ClassFile.FieldType)) ∈ lw_all := lw_g (lw_at lw_m4 230 rfl) rfl
theorem q1064 : (Jvm.Cond.methodLink "InsuredFlame" (229 : Nat) ({ cls := "InsuredFlame", name := "looksFrom", desc := "(I)V" } : Jvm.MethodName)) ∈ lw_all := lw_g (lw_at lw_m4 231 rfl) rfl
theorem q1065 : (Jvm.Cond.privateMethod ({ cls := "InsuredFlame", name := "looksFrom", desc := "(I)V" } : Jvm.MethodName)) ∈ lw_tbl := lw_at lw_m4 232 rfl
theorem q1066 : (Jvm.Cond.instanceMethod ({ cls := "InsuredFlame", name := "looksFrom", desc := "(I)V" } : Jvm.MethodName)) ∈ lw_all := lw_g (lw_at lw_m4 233 rfl) rfl
theorem q1067 : (Jvm.Cond.code ({ cls := "InsuredFlame", name := "looksFrom", desc := "(I)V" } : Jvm.MethodName) prog_1_method_29_code (6 : Nat) (Option.none : Option Jvm.ClassFile.FieldType)) ∈ lw_all := lw_g (lw_at lw_m4 234 rfl) rfl
theorem q1068 : (Jvm.Cond.methodLink "InsuredFlame" (238 : Nat) ({ cls := "InsuredFlame", name := "turns", desc := "(II)V" } : Jvm.MethodName)) ∈ lw_all := lw_g (lw_at lw_m4 235 rfl) rfl
theorem q1069 : (Jvm.Cond.privateMethod ({ cls := "InsuredFlame", name := "turns", desc := "(II)V" } : Jvm.MethodName)) ∈ lw_tbl := lw_at lw_m4 236 rfl
theorem q1070 : (Jvm.Cond.instanceMethod ({ cls := "InsuredFlame", name := "turns", desc := "(II)V" } : Jvm.MethodName)) ∈ lw_all := lw_g (lw_at lw_m4 237 rfl) rfl
theorem q1071 : (Jvm.Cond.code ({ cls := "InsuredFlame", name := "turns", desc := "(II)V" } : Jvm.MethodName) prog_1_method_32_code (6 : Nat) (Option.none : Option Jvm.ClassFile.FieldType)) ∈ lw_all := lw_g (lw_at lw_m4 238 rfl) rfl
theorem q1072 : (Jvm.Cond.methodLink "InsuredFlame" (232 : Nat) ({ cls := "InsuredFlame", name := "wayTo", desc := "(II)I" } : Jvm.MethodName)) ∈ lw_all := lw_g (lw_at lw_m4 239 rfl) rfl
theorem q1073 : (Jvm.Cond.privateMethod ({ cls := "InsuredFlame", name := "wayTo", desc := "(II)I" } : Jvm.MethodName)) ∈ lw_tbl := lw_at lw_m5 0 rfl
theorem q1074 : (Jvm.Cond.instanceMethod ({ cls := "InsuredFlame", name := "wayTo", desc := "(II)I" } : Jvm.MethodName)) ∈ lw_all := lw_g (lw_at lw_m5 1 rfl) rfl
theorem q1075 : (Jvm.Cond.code ({ cls := "InsuredFlame", name := "wayTo", desc := "(II)I" } : Jvm.MethodName) prog_1_method_31_code (4 : Nat) (Option.some Jvm.ClassFile.FieldType.int)) ∈ lw_all := lw_g (lw_at lw_m5 2 rfl) rfl
theorem q1077 : (Jvm.Cond.instanceMethod ({ cls := "InsuredFlame", name := "getsOut", desc := "(I)I" } : Jvm.MethodName)) ∈ lw_all := lw_g (lw_at lw_m5 4 rfl) rfl
theorem q1078 : (Jvm.Cond.selects "InsuredFlame" ({ cls := "InsuredFlame", name := "getsOut", desc := "(I)I" } : Jvm.MethodName) ({ cls := "InsuredFlame", name := "getsOut", desc := "(I)I" } : Jvm.MethodName)) ∈ lw_all := lw_g (lw_at lw_m5 5 rfl) rfl
theorem q1079 : (Jvm.Cond.code ({ cls := "InsuredFlame", name := "getsOut", desc := "(I)I" } : Jvm.MethodName) prog_1_method_35_code (6 : Nat) (Option.some Jvm.ClassFile.FieldType.int)) ∈ lw_all := lw_g (lw_at lw_m5 6 rfl) rfl
theorem q1080 : (Jvm.Cond.methodLink "InsuredFlame" (241 : Nat) ({ cls := "InsuredFlame", name := "laysFromBurning", desc := "()V" } : Jvm.MethodName)) ∈ lw_all := lw_g (lw_at lw_m5 7 rfl) rfl
theorem q1081 : (Jvm.Cond.privateMethod ({ cls := "InsuredFlame", name := "laysFromBurning", desc := "()V" } : Jvm.MethodName)) ∈ lw_tbl := lw_at lw_m5 8 rfl
theorem q1082 : (Jvm.Cond.instanceMethod ({ cls := "InsuredFlame", name := "laysFromBurning", desc := "()V" } : Jvm.MethodName)) ∈ lw_all := lw_g (lw_at lw_m5 9 rfl) rfl
theorem q1083 : (Jvm.Cond.code ({ cls := "InsuredFlame", name := "laysFromBurning", desc := "()V" } : Jvm.MethodName) prog_1_method_24_code (2 : Nat) (Option.none : Option Jvm.ClassFile.FieldType)) ∈ lw_all := lw_g (lw_at lw_m5 10 rfl) rfl
theorem q1084 : (Jvm.Cond.methodLink "InsuredFlame" (244 : Nat) ({ cls := "InsuredFlame", name := "isEdge", desc := "(I)Z" } : Jvm.MethodName)) ∈ lw_all := lw_g (lw_at lw_m5 11 rfl) rfl
theorem q1085 : (Jvm.Cond.static ({ cls := "InsuredFlame", name := "isEdge", desc := "(I)Z" } : Jvm.MethodName)) ∈ lw_all := lw_g (lw_at lw_m5 12 rfl) rfl
theorem q1086 : (Jvm.Cond.code ({ cls := "InsuredFlame", name := "isEdge", desc := "(I)Z" } : Jvm.MethodName) prog_1_method_34_code (1 : Nat) (Option.some Jvm.ClassFile.FieldType.boolean)) ∈ lw_all := lw_g (lw_at lw_m5 13 rfl) rfl
theorem q1088 : (Jvm.Cond.instanceMethod ({ cls := "InsuredFlame", name := "safe", desc := "(I)I" } : Jvm.MethodName)) ∈ lw_all := lw_g (lw_at lw_m5 15 rfl) rfl
theorem q1089 : (Jvm.Cond.selects "InsuredFlame" ({ cls := "InsuredFlame", name := "safe", desc := "(I)I" } : Jvm.MethodName) ({ cls := "InsuredFlame", name := "safe", desc := "(I)I" } : Jvm.MethodName)) ∈ lw_all := lw_g (lw_at lw_m5 16 rfl) rfl
theorem q1090 : (Jvm.Cond.code ({ cls := "InsuredFlame", name := "safe", desc := "(I)I" } : Jvm.MethodName) prog_1_method_36_code (5 : Nat) (Option.some Jvm.ClassFile.FieldType.int)) ∈ lw_all := lw_g (lw_at lw_m5 17 rfl) rfl
theorem q1092 : (Jvm.Cond.instanceMethod ({ cls := "InsuredFlame", name := "woods", desc := "(I)I" } : Jvm.MethodName)) ∈ lw_all := lw_g (lw_at lw_m5 19 rfl) rfl
theorem q1093 : (Jvm.Cond.selects "InsuredFlame" ({ cls := "InsuredFlame", name := "woods", desc := "(I)I" } : Jvm.MethodName) ({ cls := "InsuredFlame", name := "woods", desc := "(I)I" } : Jvm.MethodName)) ∈ lw_all := lw_g (lw_at lw_m5 20 rfl) rfl
theorem q1094 : (Jvm.Cond.code ({ cls := "InsuredFlame", name := "woods", desc := "(I)I" } : Jvm.MethodName) prog_1_method_37_code (8 : Nat) (Option.some Jvm.ClassFile.FieldType.int)) ∈ lw_all := lw_g (lw_at lw_m5 21 rfl) rfl
theorem q1096 : (Jvm.Cond.instanceMethod ({ cls := "InsuredFlame", name := "insure", desc := "(III)I" } : Jvm.MethodName)) ∈ lw_all := lw_g (lw_at lw_m5 23 rfl) rfl
theorem q1097 : (Jvm.Cond.selects "InsuredFlame" ({ cls := "InsuredFlame", name := "insure", desc := "(III)I" } : Jvm.MethodName) ({ cls := "InsuredFlame", name := "insure", desc := "(III)I" } : Jvm.MethodName)) ∈ lw_all := lw_g (lw_at lw_m5 24 rfl) rfl
theorem q1098 : (Jvm.Cond.code ({ cls := "InsuredFlame", name := "insure", desc := "(III)I" } : Jvm.MethodName) prog_1_method_40_code (7 : Nat) (Option.some Jvm.ClassFile.FieldType.int)) ∈ lw_all := lw_g (lw_at lw_m5 25 rfl) rfl
theorem q1099 : (Jvm.Cond.methodLink "InsuredFlame" (253 : Nat) ({ cls := "InsuredFlame", name := "sumOf", desc := "(IIII)I" } : Jvm.MethodName)) ∈ lw_all := lw_g (lw_at lw_m5 26 rfl) rfl
theorem q1100 : (Jvm.Cond.privateMethod ({ cls := "InsuredFlame", name := "sumOf", desc := "(IIII)I" } : Jvm.MethodName)) ∈ lw_tbl := lw_at lw_m5 27 rfl
theorem q1101 : (Jvm.Cond.instanceMethod ({ cls := "InsuredFlame", name := "sumOf", desc := "(IIII)I" } : Jvm.MethodName)) ∈ lw_all := lw_g (lw_at lw_m5 28 rfl) rfl
theorem q1102 : (Jvm.Cond.code ({ cls := "InsuredFlame", name := "sumOf", desc := "(IIII)I" } : Jvm.MethodName) prog_1_method_39_code (7 : Nat) (Option.some Jvm.ClassFile.FieldType.int)) ∈ lw_all := lw_g (lw_at lw_m5 29 rfl) rfl
theorem q1103 : (Jvm.Cond.methodLink "InsuredFlame" (247 : Nat) ({ cls := "InsuredFlame", name := "has", desc := "(II)Z" } : Jvm.MethodName)) ∈ lw_all := lw_g (lw_at lw_m5 30 rfl) rfl
theorem q1104 : (Jvm.Cond.static ({ cls := "InsuredFlame", name := "has", desc := "(II)Z" } : Jvm.MethodName)) ∈ lw_all := lw_g (lw_at lw_m5 31 rfl) rfl
theorem q1105 : (Jvm.Cond.code ({ cls := "InsuredFlame", name := "has", desc := "(II)Z" } : Jvm.MethodName) prog_1_method_3_code (2 : Nat) (Option.some Jvm.ClassFile.FieldType.boolean)) ∈ lw_all := lw_g (lw_at lw_m5 32 rfl) rfl
theorem q1106 : (Jvm.Cond.methodLink "InsuredFlame" (250 : Nat) ({ cls := "InsuredFlame", name := "fed", desc := "(I)I" } : Jvm.MethodName)) ∈ lw_all := lw_g (lw_at lw_m5 33 rfl) rfl
theorem q1107 : (Jvm.Cond.privateMethod ({ cls := "InsuredFlame", name := "fed", desc := "(I)I" } : Jvm.MethodName)) ∈ lw_tbl := lw_at lw_m5 34 rfl
theorem q1108 : (Jvm.Cond.instanceMethod ({ cls := "InsuredFlame", name := "fed", desc := "(I)I" } : Jvm.MethodName)) ∈ lw_all := lw_g (lw_at lw_m5 35 rfl) rfl
theorem q1109 : (Jvm.Cond.code ({ cls := "InsuredFlame", name := "fed", desc := "(I)I" } : Jvm.MethodName) prog_1_method_38_code (2 : Nat) (Option.some Jvm.ClassFile.FieldType.int)) ∈ lw_all := lw_g (lw_at lw_m5 36 rfl) rfl
theorem q1111 : (Jvm.Cond.instanceMethod ({ cls := "InsuredFlame", name := "roundFigure", desc := "(I)I" } : Jvm.MethodName)) ∈ lw_all := lw_g (lw_at lw_m5 38 rfl) rfl
theorem q1112 : (Jvm.Cond.selects "InsuredFlame" ({ cls := "InsuredFlame", name := "roundFigure", desc := "(I)I" } : Jvm.MethodName) ({ cls := "InsuredFlame", name := "roundFigure", desc := "(I)I" } : Jvm.MethodName)) ∈ lw_all := lw_g (lw_at lw_m5 39 rfl) rfl
theorem q1113 : (Jvm.Cond.code ({ cls := "InsuredFlame", name := "roundFigure", desc := "(I)I" } : Jvm.MethodName) prog_1_method_41_code (5 : Nat) (Option.some Jvm.ClassFile.FieldType.int)) ∈ lw_all := lw_g (lw_at lw_m5 40 rfl) rfl
theorem q1114 : (Jvm.Cond.constant "InsuredFlame" (257 : Nat) (999999 : Int32)) ∈ lw_all := lw_g (lw_at lw_m5 41 rfl) rfl
theorem q1115 : (Jvm.Cond.constant "InsuredFlame" (258 : Nat) (1000000 : Int32)) ∈ lw_all := lw_g (lw_at lw_m5 42 rfl) rfl
theorem q1116 : (Jvm.Cond.methodLink "InsuredFlame" (259 : Nat) ({ cls := "java/lang/Math", name := "abs", desc := "(I)I" } : Jvm.MethodName)) ∈ lw_all := lw_g (lw_at lw_m5 43 rfl) rfl
theorem q1120 : (Jvm.Cond.instanceMethod ({ cls := "InsuredFlame", name := "ruin", desc := "(III)I" } : Jvm.MethodName)) ∈ lw_all := lw_g (lw_at lw_m5 47 rfl) rfl
theorem q1121 : (Jvm.Cond.selects "InsuredFlame" ({ cls := "InsuredFlame", name := "ruin", desc := "(III)I" } : Jvm.MethodName) ({ cls := "InsuredFlame", name := "ruin", desc := "(III)I" } : Jvm.MethodName)) ∈ lw_all := lw_g (lw_at lw_m5 48 rfl) rfl
theorem q1122 : (Jvm.Cond.code ({ cls := "InsuredFlame", name := "ruin", desc := "(III)I" } : Jvm.MethodName) prog_1_method_44_code (7 : Nat) (Option.some Jvm.ClassFile.FieldType.int)) ∈ lw_all := lw_g (lw_at lw_m5 49 rfl) rfl
theorem q1123 : (Jvm.Cond.methodLink "InsuredFlame" (262 : Nat) ({ cls := "InsuredFlame", name := "owedBy", desc := "(III)I" } : Jvm.MethodName)) ∈ lw_all := lw_g (lw_at lw_m5 50 rfl) rfl
theorem q1124 : (Jvm.Cond.privateMethod ({ cls := "InsuredFlame", name := "owedBy", desc := "(III)I" } : Jvm.MethodName)) ∈ lw_tbl := lw_at lw_m5 51 rfl
theorem q1125 : (Jvm.Cond.instanceMethod ({ cls := "InsuredFlame", name := "owedBy", desc := "(III)I" } : Jvm.MethodName)) ∈ lw_all := lw_g (lw_at lw_m5 52 rfl) rfl
theorem q1126 : (Jvm.Cond.code ({ cls := "InsuredFlame", name := "owedBy", desc := "(III)I" } : Jvm.MethodName) prog_1_method_42_code (6 : Nat) (Option.some Jvm.ClassFile.FieldType.int)) ∈ lw_all := lw_g (lw_at lw_m5 53 rfl) rfl
theorem q1127 : (Jvm.Cond.methodLink "InsuredFlame" (266 : Nat) ({ cls := "InsuredFlame", name := "owedTo", desc := "(III)I" } : Jvm.MethodName)) ∈ lw_all := lw_g (lw_at lw_m5 54 rfl) rfl
theorem q1128 : (Jvm.Cond.privateMethod ({ cls := "InsuredFlame", name := "owedTo", desc := "(III)I" } : Jvm.MethodName)) ∈ lw_tbl := lw_at lw_m5 55 rfl
theorem q1129 : (Jvm.Cond.instanceMethod ({ cls := "InsuredFlame", name := "owedTo", desc := "(III)I" } : Jvm.MethodName)) ∈ lw_all := lw_g (lw_at lw_m5 56 rfl) rfl
theorem q1130 : (Jvm.Cond.code ({ cls := "InsuredFlame", name := "owedTo", desc := "(III)I" } : Jvm.MethodName) prog_1_method_43_code (6 : Nat) (Option.some Jvm.ClassFile.FieldType.int)) ∈ lw_all := lw_g (lw_at lw_m5 57 rfl) rfl
theorem q1131 : (Jvm.Cond.methodLink "InsuredFlame" (269 : Nat) ({ cls := "java/lang/Integer", name := "bitCount", desc := "(I)I" } : Jvm.MethodName)) ∈ lw_all := lw_g (lw_at lw_m5 58 rfl) rfl
theorem q1138 : (Jvm.Cond.instanceMethod ({ cls := "InsuredFlame", name := "carried", desc := "(I)I" } : Jvm.MethodName)) ∈ lw_all := lw_g (lw_at lw_m5 65 rfl) rfl
theorem q1139 : (Jvm.Cond.selects "InsuredFlame" ({ cls := "InsuredFlame", name := "carried", desc := "(I)I" } : Jvm.MethodName) ({ cls := "InsuredFlame", name := "carried", desc := "(I)I" } : Jvm.MethodName)) ∈ lw_all := lw_g (lw_at lw_m5 66 rfl) rfl
theorem q1140 : (Jvm.Cond.code ({ cls := "InsuredFlame", name := "carried", desc := "(I)I" } : Jvm.MethodName) prog_1_method_47_code (4 : Nat) (Option.some Jvm.ClassFile.FieldType.int)) ∈ lw_all := lw_g (lw_at lw_m5 67 rfl) rfl
theorem q1141 : (Jvm.Cond.methodLink "InsuredFlame" (274 : Nat) ({ cls := "InsuredFlame", name := "sorts", desc := "(I)V" } : Jvm.MethodName)) ∈ lw_all := lw_g (lw_at lw_m5 68 rfl) rfl
theorem q1142 : (Jvm.Cond.privateMethod ({ cls := "InsuredFlame", name := "sorts", desc := "(I)V" } : Jvm.MethodName)) ∈ lw_tbl := lw_at lw_m5 69 rfl
theorem q1143 : (Jvm.Cond.instanceMethod ({ cls := "InsuredFlame", name := "sorts", desc := "(I)V" } : Jvm.MethodName)) ∈ lw_all := lw_g (lw_at lw_m5 70 rfl) rfl
theorem q1144 : (Jvm.Cond.code ({ cls := "InsuredFlame", name := "sorts", desc := "(I)V" } : Jvm.MethodName) prog_1_method_45_code (4 : Nat) (Option.none : Option Jvm.ClassFile.FieldType)) ∈ lw_all := lw_g (lw_at lw_m5 71 rfl) rfl
theorem q1145 : (Jvm.Cond.methodLink "InsuredFlame" (277 : Nat) ({ cls := "InsuredFlame", name := "isInTime", desc := "(II)Z" } : Jvm.MethodName)) ∈ lw_all := lw_g (lw_at lw_m5 72 rfl) rfl
theorem q1146 : (Jvm.Cond.privateMethod ({ cls := "InsuredFlame", name := "isInTime", desc := "(II)Z" } : Jvm.MethodName)) ∈ lw_tbl := lw_at lw_m5 73 rfl
theorem q1147 : (Jvm.Cond.instanceMethod ({ cls := "InsuredFlame", name := "isInTime", desc := "(II)Z" } : Jvm.MethodName)) ∈ lw_all := lw_g (lw_at lw_m5 74 rfl) rfl
theorem q1148 : (Jvm.Cond.code ({ cls := "InsuredFlame", name := "isInTime", desc := "(II)Z" } : Jvm.MethodName) prog_1_method_46_code (5 : Nat) (Option.some Jvm.ClassFile.FieldType.boolean)) ∈ lw_all := lw_g (lw_at lw_m5 75 rfl) rfl
theorem q1150 : (Jvm.Cond.instanceMethod ({ cls := "InsuredFlame", name := "premium", desc := "(II)I" } : Jvm.MethodName)) ∈ lw_all := lw_g (lw_at lw_m5 77 rfl) rfl
theorem q1151 : (Jvm.Cond.selects "InsuredFlame" ({ cls := "InsuredFlame", name := "premium", desc := "(II)I" } : Jvm.MethodName) ({ cls := "InsuredFlame", name := "premium", desc := "(II)I" } : Jvm.MethodName)) ∈ lw_all := lw_g (lw_at lw_m5 78 rfl) rfl
theorem q1152 : (Jvm.Cond.code ({ cls := "InsuredFlame", name := "premium", desc := "(II)I" } : Jvm.MethodName) prog_1_method_48_code (6 : Nat) (Option.some Jvm.ClassFile.FieldType.int)) ∈ lw_all := lw_g (lw_at lw_m5 79 rfl) rfl
theorem q1154 : (Jvm.Cond.instanceMethod ({ cls := "InsuredFlame", name := "seed", desc := "(I)Z" } : Jvm.MethodName)) ∈ lw_all := lw_g (lw_at lw_m5 81 rfl) rfl
theorem q1155 : (Jvm.Cond.selects "InsuredFlame" ({ cls := "InsuredFlame", name := "seed", desc := "(I)Z" } : Jvm.MethodName) ({ cls := "InsuredFlame", name := "seed", desc := "(I)Z" } : Jvm.MethodName)) ∈ lw_all := lw_g (lw_at lw_m5 82 rfl) rfl
theorem q1156 : (Jvm.Cond.code ({ cls := "InsuredFlame", name := "seed", desc := "(I)Z" } : Jvm.MethodName) prog_1_method_49_code (2 : Nat) (Option.some Jvm.ClassFile.FieldType.boolean)) ∈ lw_all := lw_g (lw_at lw_m5 83 rfl) rfl
theorem q1157 : (Jvm.Cond.constant "InsuredFlame" (280 : Nat) (65536 : Int32)) ∈ lw_all := lw_g (lw_at lw_m5 84 rfl) rfl
theorem q1159 : (Jvm.Cond.instanceMethod ({ cls := "InsuredFlame", name := "keep", desc := "()I" } : Jvm.MethodName)) ∈ lw_all := lw_g (lw_at lw_m5 86 rfl) rfl
theorem q1160 : (Jvm.Cond.selects "InsuredFlame" ({ cls := "InsuredFlame", name := "keep", desc := "()I" } : Jvm.MethodName) ({ cls := "InsuredFlame", name := "keep", desc := "()I" } : Jvm.MethodName)) ∈ lw_all := lw_g (lw_at lw_m5 87 rfl) rfl
theorem q1161 : (Jvm.Cond.code ({ cls := "InsuredFlame", name := "keep", desc := "()I" } : Jvm.MethodName) prog_1_method_50_code (1 : Nat) (Option.some Jvm.ClassFile.FieldType.int)) ∈ lw_all := lw_g (lw_at lw_m5 88 rfl) rfl
theorem q1163 : (Jvm.Cond.instanceMethod ({ cls := "InsuredFlame", name := "undo", desc := "()Z" } : Jvm.MethodName)) ∈ lw_all := lw_g (lw_at lw_m5 90 rfl) rfl
theorem q1164 : (Jvm.Cond.selects "InsuredFlame" ({ cls := "InsuredFlame", name := "undo", desc := "()Z" } : Jvm.MethodName) ({ cls := "InsuredFlame", name := "undo", desc := "()Z" } : Jvm.MethodName)) ∈ lw_all := lw_g (lw_at lw_m5 91 rfl) rfl
theorem q1165 : (Jvm.Cond.code ({ cls := "InsuredFlame", name := "undo", desc := "()Z" } : Jvm.MethodName) prog_1_method_51_code (1 : Nat) (Option.some Jvm.ClassFile.FieldType.boolean)) ∈ lw_all := lw_g (lw_at lw_m5 92 rfl) rfl
theorem q1167 : (Jvm.Cond.instanceMethod ({ cls := "InsuredFlame", name := "check", desc := "(I)I" } : Jvm.MethodName)) ∈ lw_all := lw_g (lw_at lw_m5 94 rfl) rfl
theorem q1168 : (Jvm.Cond.selects "InsuredFlame" ({ cls := "InsuredFlame", name := "check", desc := "(I)I" } : Jvm.MethodName) ({ cls := "InsuredFlame", name := "check", desc := "(I)I" } : Jvm.MethodName)) ∈ lw_all := lw_g (lw_at lw_m5 95 rfl) rfl
theorem q1169 : (Jvm.Cond.code ({ cls := "InsuredFlame", name := "check", desc := "(I)I" } : Jvm.MethodName) prog_1_method_52_code (3 : Nat) (Option.some Jvm.ClassFile.FieldType.int)) ∈ lw_all := lw_g (lw_at lw_m5 96 rfl) rfl
theorem q1171 : (Jvm.Cond.instanceMethod ({ cls := "InsuredFlame", name := "count", desc := "(I)I" } : Jvm.MethodName)) ∈ lw_all := lw_g (lw_at lw_m5 98 rfl) rfl
theorem q1172 : (Jvm.Cond.selects "InsuredFlame" ({ cls := "InsuredFlame", name := "count", desc := "(I)I" } : Jvm.MethodName) ({ cls := "InsuredFlame", name := "count", desc := "(I)I" } : Jvm.MethodName)) ∈ lw_all := lw_g (lw_at lw_m5 99 rfl) rfl
theorem q1173 : (Jvm.Cond.code ({ cls := "InsuredFlame", name := "count", desc := "(I)I" } : Jvm.MethodName) prog_1_method_54_code (2 : Nat) (Option.some Jvm.ClassFile.FieldType.int)) ∈ lw_all := lw_g (lw_at lw_m5 100 rfl) rfl
theorem q1174 : (Jvm.Cond.methodLink "InsuredFlame" (284 : Nat) ({ cls := "InsuredFlame", name := "toldThings", desc := "()I" } : Jvm.MethodName)) ∈ lw_all := lw_g (lw_at lw_m5 101 rfl) rfl
theorem q1175 : (Jvm.Cond.privateMethod ({ cls := "InsuredFlame", name := "toldThings", desc := "()I" } : Jvm.MethodName)) ∈ lw_tbl := lw_at lw_m5 102 rfl
theorem q1176 : (Jvm.Cond.instanceMethod ({ cls := "InsuredFlame", name := "toldThings", desc := "()I" } : Jvm.MethodName)) ∈ lw_all := lw_g (lw_at lw_m5 103 rfl) rfl
theorem q1177 : (Jvm.Cond.code ({ cls := "InsuredFlame", name := "toldThings", desc := "()I" } : Jvm.MethodName) prog_1_method_53_code (3 : Nat) (Option.some Jvm.ClassFile.FieldType.int)) ∈ lw_all := lw_g (lw_at lw_m5 104 rfl) rfl
theorem in_X0 : ∀ w ∈ wsX00, w ∈ lw_all := lw_in wsX00 [324, 326, 328, 330, 332, 334, 336, 338, 340, 342, 344, 346, 348, 350, 352, 354, 356] (by decide +kernel) (by decide +kernel)
