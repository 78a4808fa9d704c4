/-! InsuredFlame$Reader -/
set_option maxRecDepth 100000
def RX7 : String := "InsuredFlame$Reader"
def TX7 : u_T := fun k => match k with
  | 0 => ("InsuredFlame$Reader", "n", "I", true)
  | 1 => ("InsuredFlame$Reader", "text", "LInsuredFlame$Text;", true)
  | 2 => ("InsuredFlame$Reader", "at", "I", false)
  | 3 => ("InsuredFlame$Reader", "open", "I", false)
  | 4 => ("InsuredFlame$Reader", "fault", "I", false)
  | 5 => ("InsuredFlame$Reader", "place", "I", false)
  | _ => ("InsuredFlame$Reader", "this$0", "LInsuredFlame;", true)
def tyX7 : Nat → FieldType := fun k => match k with
  | 0 => .int
  | 1 => .object "InsuredFlame$Text"
  | 2 => .int
  | 3 => .int
  | 4 => .int
  | 5 => .int
  | _ => .object "InsuredFlame"
abbrev wsX70 : List Cond := u_ws RX7 TX7 7
theorem nmX7 : ∀ a, a < 7 → ∀ b, b < 7 → a ≠ b → (TX7 a).2.1 ≠ (TX7 b).2.1 := by decide +kernel
theorem tyX7_ok : ∀ k, k < 7 → parseFieldDescriptor (TX7 k).2.2.1 = some (tyX7 k) := by decide +kernel
abbrev cX7_init : ByteArray := prog_11_method_1_code
def yX7_init : MethodName := ⟨RX7, "<init>", "(LInsuredFlame;I)V"⟩
def dkwX7_init_1 : List UInt8 := [181, 0, 22, 177]
abbrev dktX7_init_1 : List UInt8 := dkwX7_init_1 ++ []
def dkwX7_init_0 : List UInt8 := [42, 43, 181, 0, 3, 42, 183, 0, 9, 42, 187, 0, 15, 89, 183, 0, 17, 181, 0, 18, 42, 28]
abbrev dktX7_init_0 : List UInt8 := dkwX7_init_0 ++ dktX7_init_1
theorem dksX7_init_0 : cX7_init.data.toList.drop 0 = dktX7_init_0 := by decide +kernel
theorem dksX7_init_1 : cX7_init.data.toList.drop 22 = dktX7_init_1 := dk_seg dksX7_init_0 22 rfl rfl
theorem dX7_init_0 : decode cX7_init 0 = .ok (.aload_n 0, 1) := dk_42 (dk_at dksX7_init_0 0 rfl rfl)
theorem dX7_init_1 : decode cX7_init 1 = .ok (.aload_n 1, 1) := dk_43 (dk_at dksX7_init_0 1 rfl rfl)
theorem dX7_init_2 : decode cX7_init 2 = .ok (.putfield 3, 3) := dk_181 0 3 (dk_at dksX7_init_0 2 rfl rfl)
theorem dX7_init_5 : decode cX7_init 5 = .ok (.aload_n 0, 1) := dk_42 (dk_at dksX7_init_0 5 rfl rfl)
theorem dX7_init_6 : decode cX7_init 6 = .ok (.invokespecial 9, 3) := dk_183 0 9 (dk_at dksX7_init_0 6 rfl rfl)
theorem dX7_init_9 : decode cX7_init 9 = .ok (.aload_n 0, 1) := dk_42 (dk_at dksX7_init_0 9 rfl rfl)
theorem dX7_init_10 : decode cX7_init 10 = .ok (.new 15, 3) := dk_187 0 15 (dk_at dksX7_init_0 10 rfl rfl)
theorem dX7_init_13 : decode cX7_init 13 = .ok (.dup, 1) := dk_89 (dk_at dksX7_init_0 13 rfl rfl)
theorem dX7_init_14 : decode cX7_init 14 = .ok (.invokespecial 17, 3) := dk_183 0 17 (dk_at dksX7_init_0 14 rfl rfl)
theorem dX7_init_17 : decode cX7_init 17 = .ok (.putfield 18, 3) := dk_181 0 18 (dk_at dksX7_init_0 17 rfl rfl)
theorem dX7_init_20 : decode cX7_init 20 = .ok (.aload_n 0, 1) := dk_42 (dk_at dksX7_init_0 20 rfl rfl)
theorem dX7_init_21 : decode cX7_init 21 = .ok (.iload_n 2, 1) := dk_28 (dk_at dksX7_init_0 21 rfl rfl)
theorem dX7_init_22 : decode cX7_init 22 = .ok (.putfield 22, 3) := dk_181 0 22 (dk_at dksX7_init_1 0 rfl rfl)
theorem dX7_init_25 : decode cX7_init 25 = .ok (.return_, 1) := dk_177 (dk_at dksX7_init_1 3 rfl rfl)
abbrev cX7_read : ByteArray := prog_11_method_16_code
def yX7_read : MethodName := ⟨RX7, "read", "()I"⟩
def dkwX7_read_3 : List UInt8 := [17, 252, 24, 42, 180, 0, 33, 104, 42, 180, 0, 36, 100, 172]
abbrev dktX7_read_3 : List UInt8 := dkwX7_read_3 ++ []
def dkwX7_read_2 : List UInt8 := [182, 0, 64, 167, 255, 207, 42, 182, 0, 43, 153, 0, 13, 42, 180, 0, 18, 180, 0, 131, 167, 0, 16]
abbrev dktX7_read_2 : List UInt8 := dkwX7_read_2 ++ dktX7_read_3
def dkwX7_read_1 : List UInt8 := [42, 180, 0, 26, 42, 180, 0, 22, 162, 0, 7, 4, 167, 0, 4, 3, 60, 27, 153, 255, 216, 42, 16, 59]
abbrev dktX7_read_1 : List UInt8 := dkwX7_read_1 ++ dktX7_read_2
def dkwX7_read_0 : List UInt8 := [4, 60, 27, 153, 0, 51, 42, 182, 0, 43, 153, 0, 44, 42, 182, 0, 146, 42, 182, 0, 43, 153, 0, 18]
abbrev dktX7_read_0 : List UInt8 := dkwX7_read_0 ++ dktX7_read_1
theorem dksX7_read_0 : cX7_read.data.toList.drop 0 = dktX7_read_0 := by decide +kernel
theorem dksX7_read_1 : cX7_read.data.toList.drop 24 = dktX7_read_1 := dk_seg dksX7_read_0 24 rfl rfl
theorem dksX7_read_2 : cX7_read.data.toList.drop 48 = dktX7_read_2 := dk_seg dksX7_read_1 24 rfl rfl
theorem dksX7_read_3 : cX7_read.data.toList.drop 71 = dktX7_read_3 := dk_seg dksX7_read_2 23 rfl rfl
theorem dX7_read_0 : decode cX7_read 0 = .ok (.iconst 1, 1) := dk_4 (dk_at dksX7_read_0 0 rfl rfl)
theorem dX7_read_1 : decode cX7_read 1 = .ok (.istore_n 1, 1) := dk_60 (dk_at dksX7_read_0 1 rfl rfl)
theorem dX7_read_2 : decode cX7_read 2 = .ok (.iload_n 1, 1) := dk_27 (dk_at dksX7_read_0 2 rfl rfl)
theorem dX7_read_3 : decode cX7_read 3 = .ok (.ifCond .eq 51, 3) := dk_153 0 51 (dk_at dksX7_read_0 3 rfl rfl)
theorem dX7_read_6 : decode cX7_read 6 = .ok (.aload_n 0, 1) := dk_42 (dk_at dksX7_read_0 6 rfl rfl)
theorem dX7_read_7 : decode cX7_read 7 = .ok (.invokevirtual 43, 3) := dk_182 0 43 (dk_at dksX7_read_0 7 rfl rfl)
theorem dX7_read_10 : decode cX7_read 10 = .ok (.ifCond .eq 44, 3) := dk_153 0 44 (dk_at dksX7_read_0 10 rfl rfl)
theorem dX7_read_13 : decode cX7_read 13 = .ok (.aload_n 0, 1) := dk_42 (dk_at dksX7_read_0 13 rfl rfl)
theorem dX7_read_14 : decode cX7_read 14 = .ok (.invokevirtual 146, 3) := dk_182 0 146 (dk_at dksX7_read_0 14 rfl rfl)
theorem dX7_read_17 : decode cX7_read 17 = .ok (.aload_n 0, 1) := dk_42 (dk_at dksX7_read_0 17 rfl rfl)
theorem dX7_read_18 : decode cX7_read 18 = .ok (.invokevirtual 43, 3) := dk_182 0 43 (dk_at dksX7_read_0 18 rfl rfl)
theorem dX7_read_21 : decode cX7_read 21 = .ok (.ifCond .eq 18, 3) := dk_153 0 18 (dk_at dksX7_read_0 21 rfl rfl)
theorem dX7_read_24 : decode cX7_read 24 = .ok (.aload_n 0, 1) := dk_42 (dk_at dksX7_read_1 0 rfl rfl)
theorem dX7_read_25 : decode cX7_read 25 = .ok (.getfield 26, 3) := dk_180 0 26 (dk_at dksX7_read_1 1 rfl rfl)
theorem dX7_read_28 : decode cX7_read 28 = .ok (.aload_n 0, 1) := dk_42 (dk_at dksX7_read_1 4 rfl rfl)
theorem dX7_read_29 : decode cX7_read 29 = .ok (.getfield 22, 3) := dk_180 0 22 (dk_at dksX7_read_1 5 rfl rfl)
theorem dX7_read_32 : decode cX7_read 32 = .ok (.if_icmp .ge 7, 3) := dk_162 0 7 (dk_at dksX7_read_1 8 rfl rfl)
theorem dX7_read_35 : decode cX7_read 35 = .ok (.iconst 1, 1) := dk_4 (dk_at dksX7_read_1 11 rfl rfl)
theorem dX7_read_36 : decode cX7_read 36 = .ok (.goto 4, 3) := dk_167 0 4 (dk_at dksX7_read_1 12 rfl rfl)
theorem dX7_read_39 : decode cX7_read 39 = .ok (.iconst 0, 1) := dk_3 (dk_at dksX7_read_1 15 rfl rfl)
theorem dX7_read_40 : decode cX7_read 40 = .ok (.istore_n 1, 1) := dk_60 (dk_at dksX7_read_1 16 rfl rfl)
theorem dX7_read_41 : decode cX7_read 41 = .ok (.iload_n 1, 1) := dk_27 (dk_at dksX7_read_1 17 rfl rfl)
theorem dX7_read_42 : decode cX7_read 42 = .ok (.ifCond .eq (-40), 3) := dk_153 255 216 (dk_at dksX7_read_1 18 rfl rfl)
theorem dX7_read_45 : decode cX7_read 45 = .ok (.aload_n 0, 1) := dk_42 (dk_at dksX7_read_1 21 rfl rfl)
theorem dX7_read_46 : decode cX7_read 46 = .ok (.bipush 59, 2) := dk_16 59 (dk_at dksX7_read_1 22 rfl rfl)
theorem dX7_read_48 : decode cX7_read 48 = .ok (.invokevirtual 64, 3) := dk_182 0 64 (dk_at dksX7_read_2 0 rfl rfl)
theorem dX7_read_51 : decode cX7_read 51 = .ok (.goto (-49), 3) := dk_167 255 207 (dk_at dksX7_read_2 3 rfl rfl)
theorem dX7_read_54 : decode cX7_read 54 = .ok (.aload_n 0, 1) := dk_42 (dk_at dksX7_read_2 6 rfl rfl)
theorem dX7_read_55 : decode cX7_read 55 = .ok (.invokevirtual 43, 3) := dk_182 0 43 (dk_at dksX7_read_2 7 rfl rfl)
theorem dX7_read_58 : decode cX7_read 58 = .ok (.ifCond .eq 13, 3) := dk_153 0 13 (dk_at dksX7_read_2 10 rfl rfl)
theorem dX7_read_61 : decode cX7_read 61 = .ok (.aload_n 0, 1) := dk_42 (dk_at dksX7_read_2 13 rfl rfl)
theorem dX7_read_62 : decode cX7_read 62 = .ok (.getfield 18, 3) := dk_180 0 18 (dk_at dksX7_read_2 14 rfl rfl)
theorem dX7_read_65 : decode cX7_read 65 = .ok (.getfield 131, 3) := dk_180 0 131 (dk_at dksX7_read_2 17 rfl rfl)
theorem dX7_read_68 : decode cX7_read 68 = .ok (.goto 16, 3) := dk_167 0 16 (dk_at dksX7_read_2 20 rfl rfl)
theorem dX7_read_71 : decode cX7_read 71 = .ok (.sipush (-1000), 3) := dk_17 252 24 (dk_at dksX7_read_3 0 rfl rfl)
theorem dX7_read_74 : decode cX7_read 74 = .ok (.aload_n 0, 1) := dk_42 (dk_at dksX7_read_3 3 rfl rfl)
theorem dX7_read_75 : decode cX7_read 75 = .ok (.getfield 33, 3) := dk_180 0 33 (dk_at dksX7_read_3 4 rfl rfl)
theorem dX7_read_78 : decode cX7_read 78 = .ok (.imul, 1) := dk_104 (dk_at dksX7_read_3 7 rfl rfl)
theorem dX7_read_79 : decode cX7_read 79 = .ok (.aload_n 0, 1) := dk_42 (dk_at dksX7_read_3 8 rfl rfl)
theorem dX7_read_80 : decode cX7_read 80 = .ok (.getfield 36, 3) := dk_180 0 36 (dk_at dksX7_read_3 9 rfl rfl)
theorem dX7_read_83 : decode cX7_read 83 = .ok (.isub, 1) := dk_100 (dk_at dksX7_read_3 12 rfl rfl)
theorem dX7_read_84 : decode cX7_read 84 = .ok (.ireturn, 1) := dk_172 (dk_at dksX7_read_3 13 rfl rfl)
abbrev cX7_isGood : ByteArray := prog_11_method_3_code
def yX7_isGood : MethodName := ⟨RX7, "isGood", "()Z"⟩
def dkwX7_isGood_0 : List UInt8 := [42, 180, 0, 33, 154, 0, 7, 4, 167, 0, 4, 3, 172]
abbrev dktX7_isGood_0 : List UInt8 := dkwX7_isGood_0 ++ []
theorem dksX7_isGood_0 : cX7_isGood.data.toList.drop 0 = dktX7_isGood_0 := by decide +kernel
theorem dX7_isGood_0 : decode cX7_isGood 0 = .ok (.aload_n 0, 1) := dk_42 (dk_at dksX7_isGood_0 0 rfl rfl)
theorem dX7_isGood_1 : decode cX7_isGood 1 = .ok (.getfield 33, 3) := dk_180 0 33 (dk_at dksX7_isGood_0 1 rfl rfl)
theorem dX7_isGood_4 : decode cX7_isGood 4 = .ok (.ifCond .ne 7, 3) := dk_154 0 7 (dk_at dksX7_isGood_0 4 rfl rfl)
theorem dX7_isGood_7 : decode cX7_isGood 7 = .ok (.iconst 1, 1) := dk_4 (dk_at dksX7_isGood_0 7 rfl rfl)
theorem dX7_isGood_8 : decode cX7_isGood 8 = .ok (.goto 4, 3) := dk_167 0 4 (dk_at dksX7_isGood_0 8 rfl rfl)
theorem dX7_isGood_11 : decode cX7_isGood 11 = .ok (.iconst 0, 1) := dk_3 (dk_at dksX7_isGood_0 11 rfl rfl)
theorem dX7_isGood_12 : decode cX7_isGood 12 = .ok (.ireturn, 1) := dk_172 (dk_at dksX7_isGood_0 12 rfl rfl)
abbrev cX7_clause : ByteArray := prog_11_method_15_code
def yX7_clause : MethodName := ⟨RX7, "clause", "()V"⟩
def dkwX7_clause_8 : List UInt8 := [4, 96, 181, 0, 131, 177]
abbrev dktX7_clause_8 : List UInt8 := dkwX7_clause_8 ++ []
def dkwX7_clause_7 : List UInt8 := [42, 180, 0, 18, 180, 0, 142, 42, 180, 0, 18, 180, 0, 131, 45, 83, 42, 180, 0, 18, 89, 180, 0, 131]
abbrev dktX7_clause_7 : List UInt8 := dkwX7_clause_7 ++ dktX7_clause_8
def dkwX7_clause_6 : List UInt8 := [180, 0, 18, 180, 0, 131, 27, 79, 42, 180, 0, 18, 180, 0, 138, 42, 180, 0, 18, 180, 0, 131, 44, 83]
abbrev dktX7_clause_6 : List UInt8 := dkwX7_clause_6 ++ dktX7_clause_7
def dkwX7_clause_5 : List UInt8 := [182, 0, 43, 153, 0, 10, 42, 182, 0, 110, 167, 0, 4, 1, 78, 42, 180, 0, 18, 180, 0, 134, 42]
abbrev dktX7_clause_5 : List UInt8 := dkwX7_clause_5 ++ dktX7_clause_6
def dkwX7_clause_4 : List UInt8 := [153, 0, 21, 42, 182, 0, 39, 16, 40, 159, 0, 12, 42, 4, 42, 180, 0, 26, 182, 0, 50, 42]
abbrev dktX7_clause_4 : List UInt8 := dkwX7_clause_4 ++ dktX7_clause_5
def dkwX7_clause_3 : List UInt8 := [181, 0, 54, 27, 16, 120, 160, 0, 7, 1, 167, 0, 7, 42, 182, 0, 60, 77, 42, 182, 0, 43]
abbrev dktX7_clause_3 : List UInt8 := dkwX7_clause_3 ++ dktX7_clause_4
def dkwX7_clause_2 : List UInt8 := [182, 0, 50, 42, 182, 0, 43, 154, 0, 4, 177, 42, 89, 180, 0, 26, 4, 96, 181, 0, 26, 42, 3]
abbrev dktX7_clause_2 : List UInt8 := dkwX7_clause_2 ++ dktX7_clause_3
def dkwX7_clause_1 : List UInt8 := [182, 0, 50, 167, 0, 24, 42, 180, 0, 18, 180, 0, 131, 16, 16, 160, 0, 12, 42, 7, 42, 180, 0, 26]
abbrev dktX7_clause_1 : List UInt8 := dkwX7_clause_1 ++ dktX7_clause_2
def dkwX7_clause_0 : List UInt8 := [42, 182, 0, 39, 60, 27, 153, 0, 12, 18, 129, 27, 182, 0, 77, 156, 0, 15, 42, 4, 42, 180, 0, 26]
abbrev dktX7_clause_0 : List UInt8 := dkwX7_clause_0 ++ dktX7_clause_1
theorem dksX7_clause_0 : cX7_clause.data.toList.drop 0 = dktX7_clause_0 := by decide +kernel
theorem dksX7_clause_1 : cX7_clause.data.toList.drop 24 = dktX7_clause_1 := dk_seg dksX7_clause_0 24 rfl rfl
theorem dksX7_clause_2 : cX7_clause.data.toList.drop 48 = dktX7_clause_2 := dk_seg dksX7_clause_1 24 rfl rfl
theorem dksX7_clause_3 : cX7_clause.data.toList.drop 71 = dktX7_clause_3 := dk_seg dksX7_clause_2 23 rfl rfl
theorem dksX7_clause_4 : cX7_clause.data.toList.drop 93 = dktX7_clause_4 := dk_seg dksX7_clause_3 22 rfl rfl
theorem dksX7_clause_5 : cX7_clause.data.toList.drop 115 = dktX7_clause_5 := dk_seg dksX7_clause_4 22 rfl rfl
theorem dksX7_clause_6 : cX7_clause.data.toList.drop 138 = dktX7_clause_6 := dk_seg dksX7_clause_5 23 rfl rfl
theorem dksX7_clause_7 : cX7_clause.data.toList.drop 162 = dktX7_clause_7 := dk_seg dksX7_clause_6 24 rfl rfl
theorem dksX7_clause_8 : cX7_clause.data.toList.drop 186 = dktX7_clause_8 := dk_seg dksX7_clause_7 24 rfl rfl
theorem dX7_clause_0 : decode cX7_clause 0 = .ok (.aload_n 0, 1) := dk_42 (dk_at dksX7_clause_0 0 rfl rfl)
theorem dX7_clause_1 : decode cX7_clause 1 = .ok (.invokevirtual 39, 3) := dk_182 0 39 (dk_at dksX7_clause_0 1 rfl rfl)
theorem dX7_clause_4 : decode cX7_clause 4 = .ok (.istore_n 1, 1) := dk_60 (dk_at dksX7_clause_0 4 rfl rfl)
theorem dX7_clause_5 : decode cX7_clause 5 = .ok (.iload_n 1, 1) := dk_27 (dk_at dksX7_clause_0 5 rfl rfl)
theorem dX7_clause_6 : decode cX7_clause 6 = .ok (.ifCond .eq 12, 3) := dk_153 0 12 (dk_at dksX7_clause_0 6 rfl rfl)
theorem dX7_clause_9 : decode cX7_clause 9 = .ok (.ldc 129, 2) := dk_18 129 (dk_at dksX7_clause_0 9 rfl rfl)
theorem dX7_clause_11 : decode cX7_clause 11 = .ok (.iload_n 1, 1) := dk_27 (dk_at dksX7_clause_0 11 rfl rfl)
theorem dX7_clause_12 : decode cX7_clause 12 = .ok (.invokevirtual 77, 3) := dk_182 0 77 (dk_at dksX7_clause_0 12 rfl rfl)
theorem dX7_clause_15 : decode cX7_clause 15 = .ok (.ifCond .ge 15, 3) := dk_156 0 15 (dk_at dksX7_clause_0 15 rfl rfl)
theorem dX7_clause_18 : decode cX7_clause 18 = .ok (.aload_n 0, 1) := dk_42 (dk_at dksX7_clause_0 18 rfl rfl)
theorem dX7_clause_19 : decode cX7_clause 19 = .ok (.iconst 1, 1) := dk_4 (dk_at dksX7_clause_0 19 rfl rfl)
theorem dX7_clause_20 : decode cX7_clause 20 = .ok (.aload_n 0, 1) := dk_42 (dk_at dksX7_clause_0 20 rfl rfl)
theorem dX7_clause_21 : decode cX7_clause 21 = .ok (.getfield 26, 3) := dk_180 0 26 (dk_at dksX7_clause_0 21 rfl rfl)
theorem dX7_clause_24 : decode cX7_clause 24 = .ok (.invokevirtual 50, 3) := dk_182 0 50 (dk_at dksX7_clause_1 0 rfl rfl)
theorem dX7_clause_27 : decode cX7_clause 27 = .ok (.goto 24, 3) := dk_167 0 24 (dk_at dksX7_clause_1 3 rfl rfl)
theorem dX7_clause_30 : decode cX7_clause 30 = .ok (.aload_n 0, 1) := dk_42 (dk_at dksX7_clause_1 6 rfl rfl)
theorem dX7_clause_31 : decode cX7_clause 31 = .ok (.getfield 18, 3) := dk_180 0 18 (dk_at dksX7_clause_1 7 rfl rfl)
theorem dX7_clause_34 : decode cX7_clause 34 = .ok (.getfield 131, 3) := dk_180 0 131 (dk_at dksX7_clause_1 10 rfl rfl)
theorem dX7_clause_37 : decode cX7_clause 37 = .ok (.bipush 16, 2) := dk_16 16 (dk_at dksX7_clause_1 13 rfl rfl)
theorem dX7_clause_39 : decode cX7_clause 39 = .ok (.if_icmp .ne 12, 3) := dk_160 0 12 (dk_at dksX7_clause_1 15 rfl rfl)
theorem dX7_clause_42 : decode cX7_clause 42 = .ok (.aload_n 0, 1) := dk_42 (dk_at dksX7_clause_1 18 rfl rfl)
theorem dX7_clause_43 : decode cX7_clause 43 = .ok (.iconst 4, 1) := dk_7 (dk_at dksX7_clause_1 19 rfl rfl)
theorem dX7_clause_44 : decode cX7_clause 44 = .ok (.aload_n 0, 1) := dk_42 (dk_at dksX7_clause_1 20 rfl rfl)
theorem dX7_clause_45 : decode cX7_clause 45 = .ok (.getfield 26, 3) := dk_180 0 26 (dk_at dksX7_clause_1 21 rfl rfl)
theorem dX7_clause_48 : decode cX7_clause 48 = .ok (.invokevirtual 50, 3) := dk_182 0 50 (dk_at dksX7_clause_2 0 rfl rfl)
theorem dX7_clause_51 : decode cX7_clause 51 = .ok (.aload_n 0, 1) := dk_42 (dk_at dksX7_clause_2 3 rfl rfl)
theorem dX7_clause_52 : decode cX7_clause 52 = .ok (.invokevirtual 43, 3) := dk_182 0 43 (dk_at dksX7_clause_2 4 rfl rfl)
theorem dX7_clause_55 : decode cX7_clause 55 = .ok (.ifCond .ne 4, 3) := dk_154 0 4 (dk_at dksX7_clause_2 7 rfl rfl)
theorem dX7_clause_58 : decode cX7_clause 58 = .ok (.return_, 1) := dk_177 (dk_at dksX7_clause_2 10 rfl rfl)
theorem dX7_clause_59 : decode cX7_clause 59 = .ok (.aload_n 0, 1) := dk_42 (dk_at dksX7_clause_2 11 rfl rfl)
theorem dX7_clause_60 : decode cX7_clause 60 = .ok (.dup, 1) := dk_89 (dk_at dksX7_clause_2 12 rfl rfl)
theorem dX7_clause_61 : decode cX7_clause 61 = .ok (.getfield 26, 3) := dk_180 0 26 (dk_at dksX7_clause_2 13 rfl rfl)
theorem dX7_clause_64 : decode cX7_clause 64 = .ok (.iconst 1, 1) := dk_4 (dk_at dksX7_clause_2 16 rfl rfl)
theorem dX7_clause_65 : decode cX7_clause 65 = .ok (.iadd, 1) := dk_96 (dk_at dksX7_clause_2 17 rfl rfl)
theorem dX7_clause_66 : decode cX7_clause 66 = .ok (.putfield 26, 3) := dk_181 0 26 (dk_at dksX7_clause_2 18 rfl rfl)
theorem dX7_clause_69 : decode cX7_clause 69 = .ok (.aload_n 0, 1) := dk_42 (dk_at dksX7_clause_2 21 rfl rfl)
theorem dX7_clause_70 : decode cX7_clause 70 = .ok (.iconst 0, 1) := dk_3 (dk_at dksX7_clause_2 22 rfl rfl)
theorem dX7_clause_71 : decode cX7_clause 71 = .ok (.putfield 54, 3) := dk_181 0 54 (dk_at dksX7_clause_3 0 rfl rfl)
theorem dX7_clause_74 : decode cX7_clause 74 = .ok (.iload_n 1, 1) := dk_27 (dk_at dksX7_clause_3 3 rfl rfl)
theorem dX7_clause_75 : decode cX7_clause 75 = .ok (.bipush 120, 2) := dk_16 120 (dk_at dksX7_clause_3 4 rfl rfl)
theorem dX7_clause_77 : decode cX7_clause 77 = .ok (.if_icmp .ne 7, 3) := dk_160 0 7 (dk_at dksX7_clause_3 6 rfl rfl)
theorem dX7_clause_80 : decode cX7_clause 80 = .ok (.aconst_null, 1) := dk_1 (dk_at dksX7_clause_3 9 rfl rfl)
theorem dX7_clause_81 : decode cX7_clause 81 = .ok (.goto 7, 3) := dk_167 0 7 (dk_at dksX7_clause_3 10 rfl rfl)
theorem dX7_clause_84 : decode cX7_clause 84 = .ok (.aload_n 0, 1) := dk_42 (dk_at dksX7_clause_3 13 rfl rfl)
theorem dX7_clause_85 : decode cX7_clause 85 = .ok (.invokevirtual 60, 3) := dk_182 0 60 (dk_at dksX7_clause_3 14 rfl rfl)
theorem dX7_clause_88 : decode cX7_clause 88 = .ok (.astore_n 2, 1) := dk_77 (dk_at dksX7_clause_3 17 rfl rfl)
theorem dX7_clause_89 : decode cX7_clause 89 = .ok (.aload_n 0, 1) := dk_42 (dk_at dksX7_clause_3 18 rfl rfl)
theorem dX7_clause_90 : decode cX7_clause 90 = .ok (.invokevirtual 43, 3) := dk_182 0 43 (dk_at dksX7_clause_3 19 rfl rfl)
theorem dX7_clause_93 : decode cX7_clause 93 = .ok (.ifCond .eq 21, 3) := dk_153 0 21 (dk_at dksX7_clause_4 0 rfl rfl)
theorem dX7_clause_96 : decode cX7_clause 96 = .ok (.aload_n 0, 1) := dk_42 (dk_at dksX7_clause_4 3 rfl rfl)
theorem dX7_clause_97 : decode cX7_clause 97 = .ok (.invokevirtual 39, 3) := dk_182 0 39 (dk_at dksX7_clause_4 4 rfl rfl)
theorem dX7_clause_100 : decode cX7_clause 100 = .ok (.bipush 40, 2) := dk_16 40 (dk_at dksX7_clause_4 7 rfl rfl)
theorem dX7_clause_102 : decode cX7_clause 102 = .ok (.if_icmp .eq 12, 3) := dk_159 0 12 (dk_at dksX7_clause_4 9 rfl rfl)
theorem dX7_clause_105 : decode cX7_clause 105 = .ok (.aload_n 0, 1) := dk_42 (dk_at dksX7_clause_4 12 rfl rfl)
theorem dX7_clause_106 : decode cX7_clause 106 = .ok (.iconst 1, 1) := dk_4 (dk_at dksX7_clause_4 13 rfl rfl)
theorem dX7_clause_107 : decode cX7_clause 107 = .ok (.aload_n 0, 1) := dk_42 (dk_at dksX7_clause_4 14 rfl rfl)
theorem dX7_clause_108 : decode cX7_clause 108 = .ok (.getfield 26, 3) := dk_180 0 26 (dk_at dksX7_clause_4 15 rfl rfl)
theorem dX7_clause_111 : decode cX7_clause 111 = .ok (.invokevirtual 50, 3) := dk_182 0 50 (dk_at dksX7_clause_4 18 rfl rfl)
theorem dX7_clause_114 : decode cX7_clause 114 = .ok (.aload_n 0, 1) := dk_42 (dk_at dksX7_clause_4 21 rfl rfl)
theorem dX7_clause_115 : decode cX7_clause 115 = .ok (.invokevirtual 43, 3) := dk_182 0 43 (dk_at dksX7_clause_5 0 rfl rfl)
theorem dX7_clause_118 : decode cX7_clause 118 = .ok (.ifCond .eq 10, 3) := dk_153 0 10 (dk_at dksX7_clause_5 3 rfl rfl)
theorem dX7_clause_121 : decode cX7_clause 121 = .ok (.aload_n 0, 1) := dk_42 (dk_at dksX7_clause_5 6 rfl rfl)
theorem dX7_clause_122 : decode cX7_clause 122 = .ok (.invokevirtual 110, 3) := dk_182 0 110 (dk_at dksX7_clause_5 7 rfl rfl)
theorem dX7_clause_125 : decode cX7_clause 125 = .ok (.goto 4, 3) := dk_167 0 4 (dk_at dksX7_clause_5 10 rfl rfl)
theorem dX7_clause_128 : decode cX7_clause 128 = .ok (.aconst_null, 1) := dk_1 (dk_at dksX7_clause_5 13 rfl rfl)
theorem dX7_clause_129 : decode cX7_clause 129 = .ok (.astore_n 3, 1) := dk_78 (dk_at dksX7_clause_5 14 rfl rfl)
theorem dX7_clause_130 : decode cX7_clause 130 = .ok (.aload_n 0, 1) := dk_42 (dk_at dksX7_clause_5 15 rfl rfl)
theorem dX7_clause_131 : decode cX7_clause 131 = .ok (.getfield 18, 3) := dk_180 0 18 (dk_at dksX7_clause_5 16 rfl rfl)
theorem dX7_clause_134 : decode cX7_clause 134 = .ok (.getfield 134, 3) := dk_180 0 134 (dk_at dksX7_clause_5 19 rfl rfl)
theorem dX7_clause_137 : decode cX7_clause 137 = .ok (.aload_n 0, 1) := dk_42 (dk_at dksX7_clause_5 22 rfl rfl)
theorem dX7_clause_138 : decode cX7_clause 138 = .ok (.getfield 18, 3) := dk_180 0 18 (dk_at dksX7_clause_6 0 rfl rfl)
theorem dX7_clause_141 : decode cX7_clause 141 = .ok (.getfield 131, 3) := dk_180 0 131 (dk_at dksX7_clause_6 3 rfl rfl)
theorem dX7_clause_144 : decode cX7_clause 144 = .ok (.iload_n 1, 1) := dk_27 (dk_at dksX7_clause_6 6 rfl rfl)
theorem dX7_clause_145 : decode cX7_clause 145 = .ok (.iastore, 1) := dk_79 (dk_at dksX7_clause_6 7 rfl rfl)
theorem dX7_clause_146 : decode cX7_clause 146 = .ok (.aload_n 0, 1) := dk_42 (dk_at dksX7_clause_6 8 rfl rfl)
theorem dX7_clause_147 : decode cX7_clause 147 = .ok (.getfield 18, 3) := dk_180 0 18 (dk_at dksX7_clause_6 9 rfl rfl)
theorem dX7_clause_150 : decode cX7_clause 150 = .ok (.getfield 138, 3) := dk_180 0 138 (dk_at dksX7_clause_6 12 rfl rfl)
theorem dX7_clause_153 : decode cX7_clause 153 = .ok (.aload_n 0, 1) := dk_42 (dk_at dksX7_clause_6 15 rfl rfl)
theorem dX7_clause_154 : decode cX7_clause 154 = .ok (.getfield 18, 3) := dk_180 0 18 (dk_at dksX7_clause_6 16 rfl rfl)
theorem dX7_clause_157 : decode cX7_clause 157 = .ok (.getfield 131, 3) := dk_180 0 131 (dk_at dksX7_clause_6 19 rfl rfl)
theorem dX7_clause_160 : decode cX7_clause 160 = .ok (.aload_n 2, 1) := dk_44 (dk_at dksX7_clause_6 22 rfl rfl)
theorem dX7_clause_161 : decode cX7_clause 161 = .ok (.aastore, 1) := dk_83 (dk_at dksX7_clause_6 23 rfl rfl)
theorem dX7_clause_162 : decode cX7_clause 162 = .ok (.aload_n 0, 1) := dk_42 (dk_at dksX7_clause_7 0 rfl rfl)
theorem dX7_clause_163 : decode cX7_clause 163 = .ok (.getfield 18, 3) := dk_180 0 18 (dk_at dksX7_clause_7 1 rfl rfl)
theorem dX7_clause_166 : decode cX7_clause 166 = .ok (.getfield 142, 3) := dk_180 0 142 (dk_at dksX7_clause_7 4 rfl rfl)
theorem dX7_clause_169 : decode cX7_clause 169 = .ok (.aload_n 0, 1) := dk_42 (dk_at dksX7_clause_7 7 rfl rfl)
theorem dX7_clause_170 : decode cX7_clause 170 = .ok (.getfield 18, 3) := dk_180 0 18 (dk_at dksX7_clause_7 8 rfl rfl)
theorem dX7_clause_173 : decode cX7_clause 173 = .ok (.getfield 131, 3) := dk_180 0 131 (dk_at dksX7_clause_7 11 rfl rfl)
theorem dX7_clause_176 : decode cX7_clause 176 = .ok (.aload_n 3, 1) := dk_45 (dk_at dksX7_clause_7 14 rfl rfl)
theorem dX7_clause_177 : decode cX7_clause 177 = .ok (.aastore, 1) := dk_83 (dk_at dksX7_clause_7 15 rfl rfl)
theorem dX7_clause_178 : decode cX7_clause 178 = .ok (.aload_n 0, 1) := dk_42 (dk_at dksX7_clause_7 16 rfl rfl)
theorem dX7_clause_179 : decode cX7_clause 179 = .ok (.getfield 18, 3) := dk_180 0 18 (dk_at dksX7_clause_7 17 rfl rfl)
theorem dX7_clause_182 : decode cX7_clause 182 = .ok (.dup, 1) := dk_89 (dk_at dksX7_clause_7 20 rfl rfl)
theorem dX7_clause_183 : decode cX7_clause 183 = .ok (.getfield 131, 3) := dk_180 0 131 (dk_at dksX7_clause_7 21 rfl rfl)
theorem dX7_clause_186 : decode cX7_clause 186 = .ok (.iconst 1, 1) := dk_4 (dk_at dksX7_clause_8 0 rfl rfl)
theorem dX7_clause_187 : decode cX7_clause 187 = .ok (.iadd, 1) := dk_96 (dk_at dksX7_clause_8 1 rfl rfl)
theorem dX7_clause_188 : decode cX7_clause 188 = .ok (.putfield 131, 3) := dk_181 0 131 (dk_at dksX7_clause_8 2 rfl rfl)
theorem dX7_clause_191 : decode cX7_clause 191 = .ok (.return_, 1) := dk_177 (dk_at dksX7_clause_8 5 rfl rfl)
abbrev cX7_here : ByteArray := prog_11_method_2_code
def yX7_here : MethodName := ⟨RX7, "here", "()I"⟩
def dkwX7_here_1 : List UInt8 := [17, 0, 255, 126, 167, 0, 4, 3, 172]
abbrev dktX7_here_1 : List UInt8 := dkwX7_here_1 ++ []
def dkwX7_here_0 : List UInt8 := [42, 180, 0, 26, 42, 180, 0, 22, 162, 0, 22, 42, 180, 0, 3, 180, 0, 29, 42, 180, 0, 26, 51]
abbrev dktX7_here_0 : List UInt8 := dkwX7_here_0 ++ dktX7_here_1
theorem dksX7_here_0 : cX7_here.data.toList.drop 0 = dktX7_here_0 := by decide +kernel
theorem dksX7_here_1 : cX7_here.data.toList.drop 23 = dktX7_here_1 := dk_seg dksX7_here_0 23 rfl rfl
theorem dX7_here_0 : decode cX7_here 0 = .ok (.aload_n 0, 1) := dk_42 (dk_at dksX7_here_0 0 rfl rfl)
theorem dX7_here_1 : decode cX7_here 1 = .ok (.getfield 26, 3) := dk_180 0 26 (dk_at dksX7_here_0 1 rfl rfl)
theorem dX7_here_4 : decode cX7_here 4 = .ok (.aload_n 0, 1) := dk_42 (dk_at dksX7_here_0 4 rfl rfl)
theorem dX7_here_5 : decode cX7_here 5 = .ok (.getfield 22, 3) := dk_180 0 22 (dk_at dksX7_here_0 5 rfl rfl)
theorem dX7_here_8 : decode cX7_here 8 = .ok (.if_icmp .ge 22, 3) := dk_162 0 22 (dk_at dksX7_here_0 8 rfl rfl)
theorem dX7_here_11 : decode cX7_here 11 = .ok (.aload_n 0, 1) := dk_42 (dk_at dksX7_here_0 11 rfl rfl)
theorem dX7_here_12 : decode cX7_here 12 = .ok (.getfield 3, 3) := dk_180 0 3 (dk_at dksX7_here_0 12 rfl rfl)
theorem dX7_here_15 : decode cX7_here 15 = .ok (.getfield 29, 3) := dk_180 0 29 (dk_at dksX7_here_0 15 rfl rfl)
theorem dX7_here_18 : decode cX7_here 18 = .ok (.aload_n 0, 1) := dk_42 (dk_at dksX7_here_0 18 rfl rfl)
theorem dX7_here_19 : decode cX7_here 19 = .ok (.getfield 26, 3) := dk_180 0 26 (dk_at dksX7_here_0 19 rfl rfl)
theorem dX7_here_22 : decode cX7_here 22 = .ok (.baload, 1) := dk_51 (dk_at dksX7_here_0 22 rfl rfl)
theorem dX7_here_23 : decode cX7_here 23 = .ok (.sipush 255, 3) := dk_17 0 255 (dk_at dksX7_here_1 0 rfl rfl)
theorem dX7_here_26 : decode cX7_here 26 = .ok (.iand, 1) := dk_126 (dk_at dksX7_here_1 3 rfl rfl)
theorem dX7_here_27 : decode cX7_here 27 = .ok (.goto 4, 3) := dk_167 0 4 (dk_at dksX7_here_1 4 rfl rfl)
theorem dX7_here_30 : decode cX7_here 30 = .ok (.iconst 0, 1) := dk_3 (dk_at dksX7_here_1 7 rfl rfl)
theorem dX7_here_31 : decode cX7_here 31 = .ok (.ireturn, 1) := dk_172 (dk_at dksX7_here_1 8 rfl rfl)
abbrev cX7_bad : ByteArray := prog_11_method_4_code
def yX7_bad : MethodName := ⟨RX7, "bad", "(II)V"⟩
def dkwX7_bad_0 : List UInt8 := [42, 180, 0, 33, 158, 0, 4, 177, 42, 27, 181, 0, 33, 42, 28, 181, 0, 36, 177]
abbrev dktX7_bad_0 : List UInt8 := dkwX7_bad_0 ++ []
theorem dksX7_bad_0 : cX7_bad.data.toList.drop 0 = dktX7_bad_0 := by decide +kernel
theorem dX7_bad_0 : decode cX7_bad 0 = .ok (.aload_n 0, 1) := dk_42 (dk_at dksX7_bad_0 0 rfl rfl)
theorem dX7_bad_1 : decode cX7_bad 1 = .ok (.getfield 33, 3) := dk_180 0 33 (dk_at dksX7_bad_0 1 rfl rfl)
theorem dX7_bad_4 : decode cX7_bad 4 = .ok (.ifCond .le 4, 3) := dk_158 0 4 (dk_at dksX7_bad_0 4 rfl rfl)
theorem dX7_bad_7 : decode cX7_bad 7 = .ok (.return_, 1) := dk_177 (dk_at dksX7_bad_0 7 rfl rfl)
theorem dX7_bad_8 : decode cX7_bad 8 = .ok (.aload_n 0, 1) := dk_42 (dk_at dksX7_bad_0 8 rfl rfl)
theorem dX7_bad_9 : decode cX7_bad 9 = .ok (.iload_n 1, 1) := dk_27 (dk_at dksX7_bad_0 9 rfl rfl)
theorem dX7_bad_10 : decode cX7_bad 10 = .ok (.putfield 33, 3) := dk_181 0 33 (dk_at dksX7_bad_0 10 rfl rfl)
theorem dX7_bad_13 : decode cX7_bad 13 = .ok (.aload_n 0, 1) := dk_42 (dk_at dksX7_bad_0 13 rfl rfl)
theorem dX7_bad_14 : decode cX7_bad 14 = .ok (.iload_n 2, 1) := dk_28 (dk_at dksX7_bad_0 14 rfl rfl)
theorem dX7_bad_15 : decode cX7_bad 15 = .ok (.putfield 36, 3) := dk_181 0 36 (dk_at dksX7_bad_0 15 rfl rfl)
theorem dX7_bad_18 : decode cX7_bad 18 = .ok (.return_, 1) := dk_177 (dk_at dksX7_bad_0 18 rfl rfl)
abbrev cX7_sum : ByteArray := prog_11_method_11_code
def yX7_sum : MethodName := ⟨RX7, "sum", "()LInsuredFlame$Sum;"⟩
def dkwX7_sum_3 : List UInt8 := [44, 180, 0, 94, 77, 167, 255, 195, 43, 176]
abbrev dktX7_sum_3 : List UInt8 := dkwX7_sum_3 ++ []
def dkwX7_sum_2 : List UInt8 := [180, 0, 26, 4, 96, 181, 0, 26, 44, 187, 0, 86, 89, 29, 42, 182, 0, 98, 183, 0, 91, 181, 0, 94]
abbrev dktX7_sum_2 : List UInt8 := dkwX7_sum_2 ++ dktX7_sum_3
def dkwX7_sum_1 : List UInt8 := [182, 0, 39, 16, 43, 159, 0, 12, 42, 182, 0, 39, 16, 45, 160, 0, 42, 42, 182, 0, 39, 62, 42, 89]
abbrev dktX7_sum_1 : List UInt8 := dkwX7_sum_1 ++ dktX7_sum_2
def dkwX7_sum_0 : List UInt8 := [187, 0, 86, 89, 3, 42, 182, 0, 98, 183, 0, 91, 76, 43, 77, 42, 182, 0, 43, 153, 0, 60, 42]
abbrev dktX7_sum_0 : List UInt8 := dkwX7_sum_0 ++ dktX7_sum_1
theorem dksX7_sum_0 : cX7_sum.data.toList.drop 0 = dktX7_sum_0 := by decide +kernel
theorem dksX7_sum_1 : cX7_sum.data.toList.drop 23 = dktX7_sum_1 := dk_seg dksX7_sum_0 23 rfl rfl
theorem dksX7_sum_2 : cX7_sum.data.toList.drop 47 = dktX7_sum_2 := dk_seg dksX7_sum_1 24 rfl rfl
theorem dksX7_sum_3 : cX7_sum.data.toList.drop 71 = dktX7_sum_3 := dk_seg dksX7_sum_2 24 rfl rfl
theorem dX7_sum_0 : decode cX7_sum 0 = .ok (.new 86, 3) := dk_187 0 86 (dk_at dksX7_sum_0 0 rfl rfl)
theorem dX7_sum_3 : decode cX7_sum 3 = .ok (.dup, 1) := dk_89 (dk_at dksX7_sum_0 3 rfl rfl)
theorem dX7_sum_4 : decode cX7_sum 4 = .ok (.iconst 0, 1) := dk_3 (dk_at dksX7_sum_0 4 rfl rfl)
theorem dX7_sum_5 : decode cX7_sum 5 = .ok (.aload_n 0, 1) := dk_42 (dk_at dksX7_sum_0 5 rfl rfl)
theorem dX7_sum_6 : decode cX7_sum 6 = .ok (.invokevirtual 98, 3) := dk_182 0 98 (dk_at dksX7_sum_0 6 rfl rfl)
theorem dX7_sum_9 : decode cX7_sum 9 = .ok (.invokespecial 91, 3) := dk_183 0 91 (dk_at dksX7_sum_0 9 rfl rfl)
theorem dX7_sum_12 : decode cX7_sum 12 = .ok (.astore_n 1, 1) := dk_76 (dk_at dksX7_sum_0 12 rfl rfl)
theorem dX7_sum_13 : decode cX7_sum 13 = .ok (.aload_n 1, 1) := dk_43 (dk_at dksX7_sum_0 13 rfl rfl)
theorem dX7_sum_14 : decode cX7_sum 14 = .ok (.astore_n 2, 1) := dk_77 (dk_at dksX7_sum_0 14 rfl rfl)
theorem dX7_sum_15 : decode cX7_sum 15 = .ok (.aload_n 0, 1) := dk_42 (dk_at dksX7_sum_0 15 rfl rfl)
theorem dX7_sum_16 : decode cX7_sum 16 = .ok (.invokevirtual 43, 3) := dk_182 0 43 (dk_at dksX7_sum_0 16 rfl rfl)
theorem dX7_sum_19 : decode cX7_sum 19 = .ok (.ifCond .eq 60, 3) := dk_153 0 60 (dk_at dksX7_sum_0 19 rfl rfl)
theorem dX7_sum_22 : decode cX7_sum 22 = .ok (.aload_n 0, 1) := dk_42 (dk_at dksX7_sum_0 22 rfl rfl)
theorem dX7_sum_23 : decode cX7_sum 23 = .ok (.invokevirtual 39, 3) := dk_182 0 39 (dk_at dksX7_sum_1 0 rfl rfl)
theorem dX7_sum_26 : decode cX7_sum 26 = .ok (.bipush 43, 2) := dk_16 43 (dk_at dksX7_sum_1 3 rfl rfl)
theorem dX7_sum_28 : decode cX7_sum 28 = .ok (.if_icmp .eq 12, 3) := dk_159 0 12 (dk_at dksX7_sum_1 5 rfl rfl)
theorem dX7_sum_31 : decode cX7_sum 31 = .ok (.aload_n 0, 1) := dk_42 (dk_at dksX7_sum_1 8 rfl rfl)
theorem dX7_sum_32 : decode cX7_sum 32 = .ok (.invokevirtual 39, 3) := dk_182 0 39 (dk_at dksX7_sum_1 9 rfl rfl)
theorem dX7_sum_35 : decode cX7_sum 35 = .ok (.bipush 45, 2) := dk_16 45 (dk_at dksX7_sum_1 12 rfl rfl)
theorem dX7_sum_37 : decode cX7_sum 37 = .ok (.if_icmp .ne 42, 3) := dk_160 0 42 (dk_at dksX7_sum_1 14 rfl rfl)
theorem dX7_sum_40 : decode cX7_sum 40 = .ok (.aload_n 0, 1) := dk_42 (dk_at dksX7_sum_1 17 rfl rfl)
theorem dX7_sum_41 : decode cX7_sum 41 = .ok (.invokevirtual 39, 3) := dk_182 0 39 (dk_at dksX7_sum_1 18 rfl rfl)
theorem dX7_sum_44 : decode cX7_sum 44 = .ok (.istore_n 3, 1) := dk_62 (dk_at dksX7_sum_1 21 rfl rfl)
theorem dX7_sum_45 : decode cX7_sum 45 = .ok (.aload_n 0, 1) := dk_42 (dk_at dksX7_sum_1 22 rfl rfl)
theorem dX7_sum_46 : decode cX7_sum 46 = .ok (.dup, 1) := dk_89 (dk_at dksX7_sum_1 23 rfl rfl)
theorem dX7_sum_47 : decode cX7_sum 47 = .ok (.getfield 26, 3) := dk_180 0 26 (dk_at dksX7_sum_2 0 rfl rfl)
theorem dX7_sum_50 : decode cX7_sum 50 = .ok (.iconst 1, 1) := dk_4 (dk_at dksX7_sum_2 3 rfl rfl)
theorem dX7_sum_51 : decode cX7_sum 51 = .ok (.iadd, 1) := dk_96 (dk_at dksX7_sum_2 4 rfl rfl)
theorem dX7_sum_52 : decode cX7_sum 52 = .ok (.putfield 26, 3) := dk_181 0 26 (dk_at dksX7_sum_2 5 rfl rfl)
theorem dX7_sum_55 : decode cX7_sum 55 = .ok (.aload_n 2, 1) := dk_44 (dk_at dksX7_sum_2 8 rfl rfl)
theorem dX7_sum_56 : decode cX7_sum 56 = .ok (.new 86, 3) := dk_187 0 86 (dk_at dksX7_sum_2 9 rfl rfl)
theorem dX7_sum_59 : decode cX7_sum 59 = .ok (.dup, 1) := dk_89 (dk_at dksX7_sum_2 12 rfl rfl)
theorem dX7_sum_60 : decode cX7_sum 60 = .ok (.iload_n 3, 1) := dk_29 (dk_at dksX7_sum_2 13 rfl rfl)
theorem dX7_sum_61 : decode cX7_sum 61 = .ok (.aload_n 0, 1) := dk_42 (dk_at dksX7_sum_2 14 rfl rfl)
theorem dX7_sum_62 : decode cX7_sum 62 = .ok (.invokevirtual 98, 3) := dk_182 0 98 (dk_at dksX7_sum_2 15 rfl rfl)
theorem dX7_sum_65 : decode cX7_sum 65 = .ok (.invokespecial 91, 3) := dk_183 0 91 (dk_at dksX7_sum_2 18 rfl rfl)
theorem dX7_sum_68 : decode cX7_sum 68 = .ok (.putfield 94, 3) := dk_181 0 94 (dk_at dksX7_sum_2 21 rfl rfl)
theorem dX7_sum_71 : decode cX7_sum 71 = .ok (.aload_n 2, 1) := dk_44 (dk_at dksX7_sum_3 0 rfl rfl)
theorem dX7_sum_72 : decode cX7_sum 72 = .ok (.getfield 94, 3) := dk_180 0 94 (dk_at dksX7_sum_3 1 rfl rfl)
theorem dX7_sum_75 : decode cX7_sum 75 = .ok (.astore_n 2, 1) := dk_77 (dk_at dksX7_sum_3 4 rfl rfl)
theorem dX7_sum_76 : decode cX7_sum 76 = .ok (.goto (-61), 3) := dk_167 255 195 (dk_at dksX7_sum_3 5 rfl rfl)
theorem dX7_sum_79 : decode cX7_sum 79 = .ok (.aload_n 1, 1) := dk_43 (dk_at dksX7_sum_3 8 rfl rfl)
theorem dX7_sum_80 : decode cX7_sum 80 = .ok (.areturn, 1) := dk_176 (dk_at dksX7_sum_3 9 rfl rfl)
abbrev cX7_product : ByteArray := prog_11_method_10_code
def yX7_product : MethodName := ⟨RX7, "product", "()LInsuredFlame$Sum;"⟩
def dkwX7_product_3 : List UInt8 := [42, 182, 0, 88, 183, 0, 91, 181, 0, 94, 44, 180, 0, 94, 77, 167, 255, 186, 43, 176]
abbrev dktX7_product_3 : List UInt8 := dkwX7_product_3 ++ []
def dkwX7_product_2 : List UInt8 := [160, 0, 42, 42, 182, 0, 39, 62, 42, 89, 180, 0, 26, 4, 96, 181, 0, 26, 44, 187, 0, 86, 89, 29]
abbrev dktX7_product_2 : List UInt8 := dkwX7_product_2 ++ dktX7_product_3
def dkwX7_product_1 : List UInt8 := [182, 0, 39, 16, 42, 159, 0, 21, 42, 182, 0, 39, 16, 47, 159, 0, 12, 42, 182, 0, 39, 16, 37]
abbrev dktX7_product_1 : List UInt8 := dkwX7_product_1 ++ dktX7_product_2
def dkwX7_product_0 : List UInt8 := [187, 0, 86, 89, 3, 42, 182, 0, 88, 183, 0, 91, 76, 43, 77, 42, 182, 0, 43, 153, 0, 69, 42]
abbrev dktX7_product_0 : List UInt8 := dkwX7_product_0 ++ dktX7_product_1
theorem dksX7_product_0 : cX7_product.data.toList.drop 0 = dktX7_product_0 := by decide +kernel
theorem dksX7_product_1 : cX7_product.data.toList.drop 23 = dktX7_product_1 := dk_seg dksX7_product_0 23 rfl rfl
theorem dksX7_product_2 : cX7_product.data.toList.drop 46 = dktX7_product_2 := dk_seg dksX7_product_1 23 rfl rfl
theorem dksX7_product_3 : cX7_product.data.toList.drop 70 = dktX7_product_3 := dk_seg dksX7_product_2 24 rfl rfl
theorem dX7_product_0 : decode cX7_product 0 = .ok (.new 86, 3) := dk_187 0 86 (dk_at dksX7_product_0 0 rfl rfl)
theorem dX7_product_3 : decode cX7_product 3 = .ok (.dup, 1) := dk_89 (dk_at dksX7_product_0 3 rfl rfl)
theorem dX7_product_4 : decode cX7_product 4 = .ok (.iconst 0, 1) := dk_3 (dk_at dksX7_product_0 4 rfl rfl)
theorem dX7_product_5 : decode cX7_product 5 = .ok (.aload_n 0, 1) := dk_42 (dk_at dksX7_product_0 5 rfl rfl)
theorem dX7_product_6 : decode cX7_product 6 = .ok (.invokevirtual 88, 3) := dk_182 0 88 (dk_at dksX7_product_0 6 rfl rfl)
theorem dX7_product_9 : decode cX7_product 9 = .ok (.invokespecial 91, 3) := dk_183 0 91 (dk_at dksX7_product_0 9 rfl rfl)
theorem dX7_product_12 : decode cX7_product 12 = .ok (.astore_n 1, 1) := dk_76 (dk_at dksX7_product_0 12 rfl rfl)
theorem dX7_product_13 : decode cX7_product 13 = .ok (.aload_n 1, 1) := dk_43 (dk_at dksX7_product_0 13 rfl rfl)
theorem dX7_product_14 : decode cX7_product 14 = .ok (.astore_n 2, 1) := dk_77 (dk_at dksX7_product_0 14 rfl rfl)
theorem dX7_product_15 : decode cX7_product 15 = .ok (.aload_n 0, 1) := dk_42 (dk_at dksX7_product_0 15 rfl rfl)
theorem dX7_product_16 : decode cX7_product 16 = .ok (.invokevirtual 43, 3) := dk_182 0 43 (dk_at dksX7_product_0 16 rfl rfl)
theorem dX7_product_19 : decode cX7_product 19 = .ok (.ifCond .eq 69, 3) := dk_153 0 69 (dk_at dksX7_product_0 19 rfl rfl)
theorem dX7_product_22 : decode cX7_product 22 = .ok (.aload_n 0, 1) := dk_42 (dk_at dksX7_product_0 22 rfl rfl)
theorem dX7_product_23 : decode cX7_product 23 = .ok (.invokevirtual 39, 3) := dk_182 0 39 (dk_at dksX7_product_1 0 rfl rfl)
theorem dX7_product_26 : decode cX7_product 26 = .ok (.bipush 42, 2) := dk_16 42 (dk_at dksX7_product_1 3 rfl rfl)
theorem dX7_product_28 : decode cX7_product 28 = .ok (.if_icmp .eq 21, 3) := dk_159 0 21 (dk_at dksX7_product_1 5 rfl rfl)
theorem dX7_product_31 : decode cX7_product 31 = .ok (.aload_n 0, 1) := dk_42 (dk_at dksX7_product_1 8 rfl rfl)
theorem dX7_product_32 : decode cX7_product 32 = .ok (.invokevirtual 39, 3) := dk_182 0 39 (dk_at dksX7_product_1 9 rfl rfl)
theorem dX7_product_35 : decode cX7_product 35 = .ok (.bipush 47, 2) := dk_16 47 (dk_at dksX7_product_1 12 rfl rfl)
theorem dX7_product_37 : decode cX7_product 37 = .ok (.if_icmp .eq 12, 3) := dk_159 0 12 (dk_at dksX7_product_1 14 rfl rfl)
theorem dX7_product_40 : decode cX7_product 40 = .ok (.aload_n 0, 1) := dk_42 (dk_at dksX7_product_1 17 rfl rfl)
theorem dX7_product_41 : decode cX7_product 41 = .ok (.invokevirtual 39, 3) := dk_182 0 39 (dk_at dksX7_product_1 18 rfl rfl)
theorem dX7_product_44 : decode cX7_product 44 = .ok (.bipush 37, 2) := dk_16 37 (dk_at dksX7_product_1 21 rfl rfl)
theorem dX7_product_46 : decode cX7_product 46 = .ok (.if_icmp .ne 42, 3) := dk_160 0 42 (dk_at dksX7_product_2 0 rfl rfl)
theorem dX7_product_49 : decode cX7_product 49 = .ok (.aload_n 0, 1) := dk_42 (dk_at dksX7_product_2 3 rfl rfl)
theorem dX7_product_50 : decode cX7_product 50 = .ok (.invokevirtual 39, 3) := dk_182 0 39 (dk_at dksX7_product_2 4 rfl rfl)
theorem dX7_product_53 : decode cX7_product 53 = .ok (.istore_n 3, 1) := dk_62 (dk_at dksX7_product_2 7 rfl rfl)
theorem dX7_product_54 : decode cX7_product 54 = .ok (.aload_n 0, 1) := dk_42 (dk_at dksX7_product_2 8 rfl rfl)
theorem dX7_product_55 : decode cX7_product 55 = .ok (.dup, 1) := dk_89 (dk_at dksX7_product_2 9 rfl rfl)
theorem dX7_product_56 : decode cX7_product 56 = .ok (.getfield 26, 3) := dk_180 0 26 (dk_at dksX7_product_2 10 rfl rfl)
theorem dX7_product_59 : decode cX7_product 59 = .ok (.iconst 1, 1) := dk_4 (dk_at dksX7_product_2 13 rfl rfl)
theorem dX7_product_60 : decode cX7_product 60 = .ok (.iadd, 1) := dk_96 (dk_at dksX7_product_2 14 rfl rfl)
theorem dX7_product_61 : decode cX7_product 61 = .ok (.putfield 26, 3) := dk_181 0 26 (dk_at dksX7_product_2 15 rfl rfl)
theorem dX7_product_64 : decode cX7_product 64 = .ok (.aload_n 2, 1) := dk_44 (dk_at dksX7_product_2 18 rfl rfl)
theorem dX7_product_65 : decode cX7_product 65 = .ok (.new 86, 3) := dk_187 0 86 (dk_at dksX7_product_2 19 rfl rfl)
theorem dX7_product_68 : decode cX7_product 68 = .ok (.dup, 1) := dk_89 (dk_at dksX7_product_2 22 rfl rfl)
theorem dX7_product_69 : decode cX7_product 69 = .ok (.iload_n 3, 1) := dk_29 (dk_at dksX7_product_2 23 rfl rfl)
theorem dX7_product_70 : decode cX7_product 70 = .ok (.aload_n 0, 1) := dk_42 (dk_at dksX7_product_3 0 rfl rfl)
theorem dX7_product_71 : decode cX7_product 71 = .ok (.invokevirtual 88, 3) := dk_182 0 88 (dk_at dksX7_product_3 1 rfl rfl)
theorem dX7_product_74 : decode cX7_product 74 = .ok (.invokespecial 91, 3) := dk_183 0 91 (dk_at dksX7_product_3 4 rfl rfl)
theorem dX7_product_77 : decode cX7_product 77 = .ok (.putfield 94, 3) := dk_181 0 94 (dk_at dksX7_product_3 7 rfl rfl)
theorem dX7_product_80 : decode cX7_product 80 = .ok (.aload_n 2, 1) := dk_44 (dk_at dksX7_product_3 10 rfl rfl)
theorem dX7_product_81 : decode cX7_product 81 = .ok (.getfield 94, 3) := dk_180 0 94 (dk_at dksX7_product_3 11 rfl rfl)
theorem dX7_product_84 : decode cX7_product 84 = .ok (.astore_n 2, 1) := dk_77 (dk_at dksX7_product_3 14 rfl rfl)
theorem dX7_product_85 : decode cX7_product 85 = .ok (.goto (-70), 3) := dk_167 255 186 (dk_at dksX7_product_3 15 rfl rfl)
theorem dX7_product_88 : decode cX7_product 88 = .ok (.aload_n 1, 1) := dk_43 (dk_at dksX7_product_3 18 rfl rfl)
theorem dX7_product_89 : decode cX7_product 89 = .ok (.areturn, 1) := dk_176 (dk_at dksX7_product_3 19 rfl rfl)
abbrev cX7_factor : ByteArray := prog_11_method_9_code
def yX7_factor : MethodName := ⟨RX7, "factor", "()LInsuredFlame$Sum;"⟩
def dkwX7_factor_5 : List UInt8 := [176]
abbrev dktX7_factor_5 : List UInt8 := dkwX7_factor_5 ++ []
def dkwX7_factor_4 : List UInt8 := [180, 0, 26, 182, 0, 50, 42, 89, 180, 0, 26, 4, 96, 181, 0, 26, 187, 0, 83, 89, 27, 183, 0, 85]
abbrev dktX7_factor_4 : List UInt8 := dkwX7_factor_4 ++ dktX7_factor_5
def dkwX7_factor_3 : List UInt8 := [182, 0, 70, 183, 0, 73, 176, 27, 153, 0, 12, 18, 75, 27, 182, 0, 77, 156, 0, 12, 42, 4, 42]
abbrev dktX7_factor_3 : List UInt8 := dkwX7_factor_3 ++ dktX7_factor_4
def dkwX7_factor_2 : List UInt8 := [180, 0, 54, 4, 100, 181, 0, 54, 44, 176, 42, 182, 0, 47, 153, 0, 15, 187, 0, 68, 89, 42]
abbrev dktX7_factor_2 : List UInt8 := dkwX7_factor_2 ++ dktX7_factor_3
def dkwX7_factor_1 : List UInt8 := [182, 0, 60, 167, 0, 4, 1, 77, 42, 182, 0, 43, 153, 0, 9, 42, 16, 93, 182, 0, 64, 42, 89]
abbrev dktX7_factor_1 : List UInt8 := dkwX7_factor_1 ++ dktX7_factor_2
def dkwX7_factor_0 : List UInt8 := [42, 182, 0, 39, 60, 27, 16, 91, 160, 0, 48, 42, 182, 0, 57, 42, 182, 0, 43, 153, 0, 10, 42]
abbrev dktX7_factor_0 : List UInt8 := dkwX7_factor_0 ++ dktX7_factor_1
theorem dksX7_factor_0 : cX7_factor.data.toList.drop 0 = dktX7_factor_0 := by decide +kernel
theorem dksX7_factor_1 : cX7_factor.data.toList.drop 23 = dktX7_factor_1 := dk_seg dksX7_factor_0 23 rfl rfl
theorem dksX7_factor_2 : cX7_factor.data.toList.drop 46 = dktX7_factor_2 := dk_seg dksX7_factor_1 23 rfl rfl
theorem dksX7_factor_3 : cX7_factor.data.toList.drop 68 = dktX7_factor_3 := dk_seg dksX7_factor_2 22 rfl rfl
theorem dksX7_factor_4 : cX7_factor.data.toList.drop 91 = dktX7_factor_4 := dk_seg dksX7_factor_3 23 rfl rfl
theorem dksX7_factor_5 : cX7_factor.data.toList.drop 115 = dktX7_factor_5 := dk_seg dksX7_factor_4 24 rfl rfl
theorem dX7_factor_0 : decode cX7_factor 0 = .ok (.aload_n 0, 1) := dk_42 (dk_at dksX7_factor_0 0 rfl rfl)
theorem dX7_factor_1 : decode cX7_factor 1 = .ok (.invokevirtual 39, 3) := dk_182 0 39 (dk_at dksX7_factor_0 1 rfl rfl)
theorem dX7_factor_4 : decode cX7_factor 4 = .ok (.istore_n 1, 1) := dk_60 (dk_at dksX7_factor_0 4 rfl rfl)
theorem dX7_factor_5 : decode cX7_factor 5 = .ok (.iload_n 1, 1) := dk_27 (dk_at dksX7_factor_0 5 rfl rfl)
theorem dX7_factor_6 : decode cX7_factor 6 = .ok (.bipush 91, 2) := dk_16 91 (dk_at dksX7_factor_0 6 rfl rfl)
theorem dX7_factor_8 : decode cX7_factor 8 = .ok (.if_icmp .ne 48, 3) := dk_160 0 48 (dk_at dksX7_factor_0 8 rfl rfl)
theorem dX7_factor_11 : decode cX7_factor 11 = .ok (.aload_n 0, 1) := dk_42 (dk_at dksX7_factor_0 11 rfl rfl)
theorem dX7_factor_12 : decode cX7_factor 12 = .ok (.invokevirtual 57, 3) := dk_182 0 57 (dk_at dksX7_factor_0 12 rfl rfl)
theorem dX7_factor_15 : decode cX7_factor 15 = .ok (.aload_n 0, 1) := dk_42 (dk_at dksX7_factor_0 15 rfl rfl)
theorem dX7_factor_16 : decode cX7_factor 16 = .ok (.invokevirtual 43, 3) := dk_182 0 43 (dk_at dksX7_factor_0 16 rfl rfl)
theorem dX7_factor_19 : decode cX7_factor 19 = .ok (.ifCond .eq 10, 3) := dk_153 0 10 (dk_at dksX7_factor_0 19 rfl rfl)
theorem dX7_factor_22 : decode cX7_factor 22 = .ok (.aload_n 0, 1) := dk_42 (dk_at dksX7_factor_0 22 rfl rfl)
theorem dX7_factor_23 : decode cX7_factor 23 = .ok (.invokevirtual 60, 3) := dk_182 0 60 (dk_at dksX7_factor_1 0 rfl rfl)
theorem dX7_factor_26 : decode cX7_factor 26 = .ok (.goto 4, 3) := dk_167 0 4 (dk_at dksX7_factor_1 3 rfl rfl)
theorem dX7_factor_29 : decode cX7_factor 29 = .ok (.aconst_null, 1) := dk_1 (dk_at dksX7_factor_1 6 rfl rfl)
theorem dX7_factor_30 : decode cX7_factor 30 = .ok (.astore_n 2, 1) := dk_77 (dk_at dksX7_factor_1 7 rfl rfl)
theorem dX7_factor_31 : decode cX7_factor 31 = .ok (.aload_n 0, 1) := dk_42 (dk_at dksX7_factor_1 8 rfl rfl)
theorem dX7_factor_32 : decode cX7_factor 32 = .ok (.invokevirtual 43, 3) := dk_182 0 43 (dk_at dksX7_factor_1 9 rfl rfl)
theorem dX7_factor_35 : decode cX7_factor 35 = .ok (.ifCond .eq 9, 3) := dk_153 0 9 (dk_at dksX7_factor_1 12 rfl rfl)
theorem dX7_factor_38 : decode cX7_factor 38 = .ok (.aload_n 0, 1) := dk_42 (dk_at dksX7_factor_1 15 rfl rfl)
theorem dX7_factor_39 : decode cX7_factor 39 = .ok (.bipush 93, 2) := dk_16 93 (dk_at dksX7_factor_1 16 rfl rfl)
theorem dX7_factor_41 : decode cX7_factor 41 = .ok (.invokevirtual 64, 3) := dk_182 0 64 (dk_at dksX7_factor_1 18 rfl rfl)
theorem dX7_factor_44 : decode cX7_factor 44 = .ok (.aload_n 0, 1) := dk_42 (dk_at dksX7_factor_1 21 rfl rfl)
theorem dX7_factor_45 : decode cX7_factor 45 = .ok (.dup, 1) := dk_89 (dk_at dksX7_factor_1 22 rfl rfl)
theorem dX7_factor_46 : decode cX7_factor 46 = .ok (.getfield 54, 3) := dk_180 0 54 (dk_at dksX7_factor_2 0 rfl rfl)
theorem dX7_factor_49 : decode cX7_factor 49 = .ok (.iconst 1, 1) := dk_4 (dk_at dksX7_factor_2 3 rfl rfl)
theorem dX7_factor_50 : decode cX7_factor 50 = .ok (.isub, 1) := dk_100 (dk_at dksX7_factor_2 4 rfl rfl)
theorem dX7_factor_51 : decode cX7_factor 51 = .ok (.putfield 54, 3) := dk_181 0 54 (dk_at dksX7_factor_2 5 rfl rfl)
theorem dX7_factor_54 : decode cX7_factor 54 = .ok (.aload_n 2, 1) := dk_44 (dk_at dksX7_factor_2 8 rfl rfl)
theorem dX7_factor_55 : decode cX7_factor 55 = .ok (.areturn, 1) := dk_176 (dk_at dksX7_factor_2 9 rfl rfl)
theorem dX7_factor_56 : decode cX7_factor 56 = .ok (.aload_n 0, 1) := dk_42 (dk_at dksX7_factor_2 10 rfl rfl)
theorem dX7_factor_57 : decode cX7_factor 57 = .ok (.invokevirtual 47, 3) := dk_182 0 47 (dk_at dksX7_factor_2 11 rfl rfl)
theorem dX7_factor_60 : decode cX7_factor 60 = .ok (.ifCond .eq 15, 3) := dk_153 0 15 (dk_at dksX7_factor_2 14 rfl rfl)
theorem dX7_factor_63 : decode cX7_factor 63 = .ok (.new 68, 3) := dk_187 0 68 (dk_at dksX7_factor_2 17 rfl rfl)
theorem dX7_factor_66 : decode cX7_factor 66 = .ok (.dup, 1) := dk_89 (dk_at dksX7_factor_2 20 rfl rfl)
theorem dX7_factor_67 : decode cX7_factor 67 = .ok (.aload_n 0, 1) := dk_42 (dk_at dksX7_factor_2 21 rfl rfl)
theorem dX7_factor_68 : decode cX7_factor 68 = .ok (.invokevirtual 70, 3) := dk_182 0 70 (dk_at dksX7_factor_3 0 rfl rfl)
theorem dX7_factor_71 : decode cX7_factor 71 = .ok (.invokespecial 73, 3) := dk_183 0 73 (dk_at dksX7_factor_3 3 rfl rfl)
theorem dX7_factor_74 : decode cX7_factor 74 = .ok (.areturn, 1) := dk_176 (dk_at dksX7_factor_3 6 rfl rfl)
theorem dX7_factor_75 : decode cX7_factor 75 = .ok (.iload_n 1, 1) := dk_27 (dk_at dksX7_factor_3 7 rfl rfl)
theorem dX7_factor_76 : decode cX7_factor 76 = .ok (.ifCond .eq 12, 3) := dk_153 0 12 (dk_at dksX7_factor_3 8 rfl rfl)
theorem dX7_factor_79 : decode cX7_factor 79 = .ok (.ldc 75, 2) := dk_18 75 (dk_at dksX7_factor_3 11 rfl rfl)
theorem dX7_factor_81 : decode cX7_factor 81 = .ok (.iload_n 1, 1) := dk_27 (dk_at dksX7_factor_3 13 rfl rfl)
theorem dX7_factor_82 : decode cX7_factor 82 = .ok (.invokevirtual 77, 3) := dk_182 0 77 (dk_at dksX7_factor_3 14 rfl rfl)
theorem dX7_factor_85 : decode cX7_factor 85 = .ok (.ifCond .ge 12, 3) := dk_156 0 12 (dk_at dksX7_factor_3 17 rfl rfl)
theorem dX7_factor_88 : decode cX7_factor 88 = .ok (.aload_n 0, 1) := dk_42 (dk_at dksX7_factor_3 20 rfl rfl)
theorem dX7_factor_89 : decode cX7_factor 89 = .ok (.iconst 1, 1) := dk_4 (dk_at dksX7_factor_3 21 rfl rfl)
theorem dX7_factor_90 : decode cX7_factor 90 = .ok (.aload_n 0, 1) := dk_42 (dk_at dksX7_factor_3 22 rfl rfl)
theorem dX7_factor_91 : decode cX7_factor 91 = .ok (.getfield 26, 3) := dk_180 0 26 (dk_at dksX7_factor_4 0 rfl rfl)
theorem dX7_factor_94 : decode cX7_factor 94 = .ok (.invokevirtual 50, 3) := dk_182 0 50 (dk_at dksX7_factor_4 3 rfl rfl)
theorem dX7_factor_97 : decode cX7_factor 97 = .ok (.aload_n 0, 1) := dk_42 (dk_at dksX7_factor_4 6 rfl rfl)
theorem dX7_factor_98 : decode cX7_factor 98 = .ok (.dup, 1) := dk_89 (dk_at dksX7_factor_4 7 rfl rfl)
theorem dX7_factor_99 : decode cX7_factor 99 = .ok (.getfield 26, 3) := dk_180 0 26 (dk_at dksX7_factor_4 8 rfl rfl)
theorem dX7_factor_102 : decode cX7_factor 102 = .ok (.iconst 1, 1) := dk_4 (dk_at dksX7_factor_4 11 rfl rfl)
theorem dX7_factor_103 : decode cX7_factor 103 = .ok (.iadd, 1) := dk_96 (dk_at dksX7_factor_4 12 rfl rfl)
theorem dX7_factor_104 : decode cX7_factor 104 = .ok (.putfield 26, 3) := dk_181 0 26 (dk_at dksX7_factor_4 13 rfl rfl)
theorem dX7_factor_107 : decode cX7_factor 107 = .ok (.new 83, 3) := dk_187 0 83 (dk_at dksX7_factor_4 16 rfl rfl)
theorem dX7_factor_110 : decode cX7_factor 110 = .ok (.dup, 1) := dk_89 (dk_at dksX7_factor_4 19 rfl rfl)
theorem dX7_factor_111 : decode cX7_factor 111 = .ok (.iload_n 1, 1) := dk_27 (dk_at dksX7_factor_4 20 rfl rfl)
theorem dX7_factor_112 : decode cX7_factor 112 = .ok (.invokespecial 85, 3) := dk_183 0 85 (dk_at dksX7_factor_4 21 rfl rfl)
theorem dX7_factor_115 : decode cX7_factor 115 = .ok (.areturn, 1) := dk_176 (dk_at dksX7_factor_5 0 rfl rfl)
abbrev cX7_opens : ByteArray := prog_11_method_8_code
def yX7_opens : MethodName := ⟨RX7, "opens", "()V"⟩
def dkwX7_opens_1 : List UInt8 := [96, 181, 0, 54, 42, 89, 180, 0, 26, 4, 96, 181, 0, 26, 177]
abbrev dktX7_opens_1 : List UInt8 := dkwX7_opens_1 ++ []
def dkwX7_opens_0 : List UInt8 := [42, 180, 0, 54, 16, 6, 160, 0, 12, 42, 8, 42, 180, 0, 26, 182, 0, 50, 42, 89, 180, 0, 54, 4]
abbrev dktX7_opens_0 : List UInt8 := dkwX7_opens_0 ++ dktX7_opens_1
theorem dksX7_opens_0 : cX7_opens.data.toList.drop 0 = dktX7_opens_0 := by decide +kernel
theorem dksX7_opens_1 : cX7_opens.data.toList.drop 24 = dktX7_opens_1 := dk_seg dksX7_opens_0 24 rfl rfl
theorem dX7_opens_0 : decode cX7_opens 0 = .ok (.aload_n 0, 1) := dk_42 (dk_at dksX7_opens_0 0 rfl rfl)
theorem dX7_opens_1 : decode cX7_opens 1 = .ok (.getfield 54, 3) := dk_180 0 54 (dk_at dksX7_opens_0 1 rfl rfl)
theorem dX7_opens_4 : decode cX7_opens 4 = .ok (.bipush 6, 2) := dk_16 6 (dk_at dksX7_opens_0 4 rfl rfl)
theorem dX7_opens_6 : decode cX7_opens 6 = .ok (.if_icmp .ne 12, 3) := dk_160 0 12 (dk_at dksX7_opens_0 6 rfl rfl)
theorem dX7_opens_9 : decode cX7_opens 9 = .ok (.aload_n 0, 1) := dk_42 (dk_at dksX7_opens_0 9 rfl rfl)
theorem dX7_opens_10 : decode cX7_opens 10 = .ok (.iconst 5, 1) := dk_8 (dk_at dksX7_opens_0 10 rfl rfl)
theorem dX7_opens_11 : decode cX7_opens 11 = .ok (.aload_n 0, 1) := dk_42 (dk_at dksX7_opens_0 11 rfl rfl)
theorem dX7_opens_12 : decode cX7_opens 12 = .ok (.getfield 26, 3) := dk_180 0 26 (dk_at dksX7_opens_0 12 rfl rfl)
theorem dX7_opens_15 : decode cX7_opens 15 = .ok (.invokevirtual 50, 3) := dk_182 0 50 (dk_at dksX7_opens_0 15 rfl rfl)
theorem dX7_opens_18 : decode cX7_opens 18 = .ok (.aload_n 0, 1) := dk_42 (dk_at dksX7_opens_0 18 rfl rfl)
theorem dX7_opens_19 : decode cX7_opens 19 = .ok (.dup, 1) := dk_89 (dk_at dksX7_opens_0 19 rfl rfl)
theorem dX7_opens_20 : decode cX7_opens 20 = .ok (.getfield 54, 3) := dk_180 0 54 (dk_at dksX7_opens_0 20 rfl rfl)
theorem dX7_opens_23 : decode cX7_opens 23 = .ok (.iconst 1, 1) := dk_4 (dk_at dksX7_opens_0 23 rfl rfl)
theorem dX7_opens_24 : decode cX7_opens 24 = .ok (.iadd, 1) := dk_96 (dk_at dksX7_opens_1 0 rfl rfl)
theorem dX7_opens_25 : decode cX7_opens 25 = .ok (.putfield 54, 3) := dk_181 0 54 (dk_at dksX7_opens_1 1 rfl rfl)
theorem dX7_opens_28 : decode cX7_opens 28 = .ok (.aload_n 0, 1) := dk_42 (dk_at dksX7_opens_1 4 rfl rfl)
theorem dX7_opens_29 : decode cX7_opens 29 = .ok (.dup, 1) := dk_89 (dk_at dksX7_opens_1 5 rfl rfl)
theorem dX7_opens_30 : decode cX7_opens 30 = .ok (.getfield 26, 3) := dk_180 0 26 (dk_at dksX7_opens_1 6 rfl rfl)
theorem dX7_opens_33 : decode cX7_opens 33 = .ok (.iconst 1, 1) := dk_4 (dk_at dksX7_opens_1 9 rfl rfl)
theorem dX7_opens_34 : decode cX7_opens 34 = .ok (.iadd, 1) := dk_96 (dk_at dksX7_opens_1 10 rfl rfl)
theorem dX7_opens_35 : decode cX7_opens 35 = .ok (.putfield 26, 3) := dk_181 0 26 (dk_at dksX7_opens_1 11 rfl rfl)
theorem dX7_opens_38 : decode cX7_opens 38 = .ok (.return_, 1) := dk_177 (dk_at dksX7_opens_1 14 rfl rfl)
abbrev cX7_must : ByteArray := prog_11_method_7_code
def yX7_must : MethodName := ⟨RX7, "must", "(I)V"⟩
def dkwX7_must_1 : List UInt8 := [181, 0, 26, 177]
abbrev dktX7_must_1 : List UInt8 := dkwX7_must_1 ++ []
def dkwX7_must_0 : List UInt8 := [42, 182, 0, 39, 27, 159, 0, 12, 42, 4, 42, 180, 0, 26, 182, 0, 50, 42, 89, 180, 0, 26, 4, 96]
abbrev dktX7_must_0 : List UInt8 := dkwX7_must_0 ++ dktX7_must_1
theorem dksX7_must_0 : cX7_must.data.toList.drop 0 = dktX7_must_0 := by decide +kernel
theorem dksX7_must_1 : cX7_must.data.toList.drop 24 = dktX7_must_1 := dk_seg dksX7_must_0 24 rfl rfl
theorem dX7_must_0 : decode cX7_must 0 = .ok (.aload_n 0, 1) := dk_42 (dk_at dksX7_must_0 0 rfl rfl)
theorem dX7_must_1 : decode cX7_must 1 = .ok (.invokevirtual 39, 3) := dk_182 0 39 (dk_at dksX7_must_0 1 rfl rfl)
theorem dX7_must_4 : decode cX7_must 4 = .ok (.iload_n 1, 1) := dk_27 (dk_at dksX7_must_0 4 rfl rfl)
theorem dX7_must_5 : decode cX7_must 5 = .ok (.if_icmp .eq 12, 3) := dk_159 0 12 (dk_at dksX7_must_0 5 rfl rfl)
theorem dX7_must_8 : decode cX7_must 8 = .ok (.aload_n 0, 1) := dk_42 (dk_at dksX7_must_0 8 rfl rfl)
theorem dX7_must_9 : decode cX7_must 9 = .ok (.iconst 1, 1) := dk_4 (dk_at dksX7_must_0 9 rfl rfl)
theorem dX7_must_10 : decode cX7_must 10 = .ok (.aload_n 0, 1) := dk_42 (dk_at dksX7_must_0 10 rfl rfl)
theorem dX7_must_11 : decode cX7_must 11 = .ok (.getfield 26, 3) := dk_180 0 26 (dk_at dksX7_must_0 11 rfl rfl)
theorem dX7_must_14 : decode cX7_must 14 = .ok (.invokevirtual 50, 3) := dk_182 0 50 (dk_at dksX7_must_0 14 rfl rfl)
theorem dX7_must_17 : decode cX7_must 17 = .ok (.aload_n 0, 1) := dk_42 (dk_at dksX7_must_0 17 rfl rfl)
theorem dX7_must_18 : decode cX7_must 18 = .ok (.dup, 1) := dk_89 (dk_at dksX7_must_0 18 rfl rfl)
theorem dX7_must_19 : decode cX7_must 19 = .ok (.getfield 26, 3) := dk_180 0 26 (dk_at dksX7_must_0 19 rfl rfl)
theorem dX7_must_22 : decode cX7_must 22 = .ok (.iconst 1, 1) := dk_4 (dk_at dksX7_must_0 22 rfl rfl)
theorem dX7_must_23 : decode cX7_must 23 = .ok (.iadd, 1) := dk_96 (dk_at dksX7_must_0 23 rfl rfl)
theorem dX7_must_24 : decode cX7_must 24 = .ok (.putfield 26, 3) := dk_181 0 26 (dk_at dksX7_must_1 0 rfl rfl)
theorem dX7_must_27 : decode cX7_must 27 = .ok (.return_, 1) := dk_177 (dk_at dksX7_must_1 3 rfl rfl)
abbrev cX7_seesDigit : ByteArray := prog_11_method_5_code
def yX7_seesDigit : MethodName := ⟨RX7, "seesDigit", "()Z"⟩
def dkwX7_seesDigit_0 : List UInt8 := [42, 182, 0, 39, 16, 48, 161, 0, 16, 42, 182, 0, 39, 16, 57, 163, 0, 7, 4, 167, 0, 4, 3, 172]
abbrev dktX7_seesDigit_0 : List UInt8 := dkwX7_seesDigit_0 ++ []
theorem dksX7_seesDigit_0 : cX7_seesDigit.data.toList.drop 0 = dktX7_seesDigit_0 := by decide +kernel
theorem dX7_seesDigit_0 : decode cX7_seesDigit 0 = .ok (.aload_n 0, 1) := dk_42 (dk_at dksX7_seesDigit_0 0 rfl rfl)
theorem dX7_seesDigit_1 : decode cX7_seesDigit 1 = .ok (.invokevirtual 39, 3) := dk_182 0 39 (dk_at dksX7_seesDigit_0 1 rfl rfl)
theorem dX7_seesDigit_4 : decode cX7_seesDigit 4 = .ok (.bipush 48, 2) := dk_16 48 (dk_at dksX7_seesDigit_0 4 rfl rfl)
theorem dX7_seesDigit_6 : decode cX7_seesDigit 6 = .ok (.if_icmp .lt 16, 3) := dk_161 0 16 (dk_at dksX7_seesDigit_0 6 rfl rfl)
theorem dX7_seesDigit_9 : decode cX7_seesDigit 9 = .ok (.aload_n 0, 1) := dk_42 (dk_at dksX7_seesDigit_0 9 rfl rfl)
theorem dX7_seesDigit_10 : decode cX7_seesDigit 10 = .ok (.invokevirtual 39, 3) := dk_182 0 39 (dk_at dksX7_seesDigit_0 10 rfl rfl)
theorem dX7_seesDigit_13 : decode cX7_seesDigit 13 = .ok (.bipush 57, 2) := dk_16 57 (dk_at dksX7_seesDigit_0 13 rfl rfl)
theorem dX7_seesDigit_15 : decode cX7_seesDigit 15 = .ok (.if_icmp .gt 7, 3) := dk_163 0 7 (dk_at dksX7_seesDigit_0 15 rfl rfl)
theorem dX7_seesDigit_18 : decode cX7_seesDigit 18 = .ok (.iconst 1, 1) := dk_4 (dk_at dksX7_seesDigit_0 18 rfl rfl)
theorem dX7_seesDigit_19 : decode cX7_seesDigit 19 = .ok (.goto 4, 3) := dk_167 0 4 (dk_at dksX7_seesDigit_0 19 rfl rfl)
theorem dX7_seesDigit_22 : decode cX7_seesDigit 22 = .ok (.iconst 0, 1) := dk_3 (dk_at dksX7_seesDigit_0 22 rfl rfl)
theorem dX7_seesDigit_23 : decode cX7_seesDigit 23 = .ok (.ireturn, 1) := dk_172 (dk_at dksX7_seesDigit_0 23 rfl rfl)
abbrev cX7_number : ByteArray := prog_11_method_6_code
def yX7_number : MethodName := ⟨RX7, "number", "()I"⟩
def dkwX7_number_2 : List UInt8 := [182, 0, 39, 96, 16, 48, 100, 61, 42, 89, 180, 0, 26, 4, 96, 181, 0, 26, 167, 255, 200, 28, 172]
abbrev dktX7_number_2 : List UInt8 := dkwX7_number_2 ++ []
def dkwX7_number_1 : List UInt8 := [180, 0, 26, 27, 8, 96, 160, 0, 12, 42, 5, 42, 180, 0, 26, 182, 0, 50, 16, 10, 28, 104, 42]
abbrev dktX7_number_1 : List UInt8 := dkwX7_number_1 ++ dktX7_number_2
def dkwX7_number_0 : List UInt8 := [42, 180, 0, 26, 60, 3, 61, 42, 182, 0, 43, 153, 0, 55, 42, 182, 0, 47, 153, 0, 48, 42]
abbrev dktX7_number_0 : List UInt8 := dkwX7_number_0 ++ dktX7_number_1
theorem dksX7_number_0 : cX7_number.data.toList.drop 0 = dktX7_number_0 := by decide +kernel
theorem dksX7_number_1 : cX7_number.data.toList.drop 22 = dktX7_number_1 := dk_seg dksX7_number_0 22 rfl rfl
theorem dksX7_number_2 : cX7_number.data.toList.drop 45 = dktX7_number_2 := dk_seg dksX7_number_1 23 rfl rfl
theorem dX7_number_0 : decode cX7_number 0 = .ok (.aload_n 0, 1) := dk_42 (dk_at dksX7_number_0 0 rfl rfl)
theorem dX7_number_1 : decode cX7_number 1 = .ok (.getfield 26, 3) := dk_180 0 26 (dk_at dksX7_number_0 1 rfl rfl)
theorem dX7_number_4 : decode cX7_number 4 = .ok (.istore_n 1, 1) := dk_60 (dk_at dksX7_number_0 4 rfl rfl)
theorem dX7_number_5 : decode cX7_number 5 = .ok (.iconst 0, 1) := dk_3 (dk_at dksX7_number_0 5 rfl rfl)
theorem dX7_number_6 : decode cX7_number 6 = .ok (.istore_n 2, 1) := dk_61 (dk_at dksX7_number_0 6 rfl rfl)
theorem dX7_number_7 : decode cX7_number 7 = .ok (.aload_n 0, 1) := dk_42 (dk_at dksX7_number_0 7 rfl rfl)
theorem dX7_number_8 : decode cX7_number 8 = .ok (.invokevirtual 43, 3) := dk_182 0 43 (dk_at dksX7_number_0 8 rfl rfl)
theorem dX7_number_11 : decode cX7_number 11 = .ok (.ifCond .eq 55, 3) := dk_153 0 55 (dk_at dksX7_number_0 11 rfl rfl)
theorem dX7_number_14 : decode cX7_number 14 = .ok (.aload_n 0, 1) := dk_42 (dk_at dksX7_number_0 14 rfl rfl)
theorem dX7_number_15 : decode cX7_number 15 = .ok (.invokevirtual 47, 3) := dk_182 0 47 (dk_at dksX7_number_0 15 rfl rfl)
theorem dX7_number_18 : decode cX7_number 18 = .ok (.ifCond .eq 48, 3) := dk_153 0 48 (dk_at dksX7_number_0 18 rfl rfl)
theorem dX7_number_21 : decode cX7_number 21 = .ok (.aload_n 0, 1) := dk_42 (dk_at dksX7_number_0 21 rfl rfl)
theorem dX7_number_22 : decode cX7_number 22 = .ok (.getfield 26, 3) := dk_180 0 26 (dk_at dksX7_number_1 0 rfl rfl)
theorem dX7_number_25 : decode cX7_number 25 = .ok (.iload_n 1, 1) := dk_27 (dk_at dksX7_number_1 3 rfl rfl)
theorem dX7_number_26 : decode cX7_number 26 = .ok (.iconst 5, 1) := dk_8 (dk_at dksX7_number_1 4 rfl rfl)
theorem dX7_number_27 : decode cX7_number 27 = .ok (.iadd, 1) := dk_96 (dk_at dksX7_number_1 5 rfl rfl)
theorem dX7_number_28 : decode cX7_number 28 = .ok (.if_icmp .ne 12, 3) := dk_160 0 12 (dk_at dksX7_number_1 6 rfl rfl)
theorem dX7_number_31 : decode cX7_number 31 = .ok (.aload_n 0, 1) := dk_42 (dk_at dksX7_number_1 9 rfl rfl)
theorem dX7_number_32 : decode cX7_number 32 = .ok (.iconst 2, 1) := dk_5 (dk_at dksX7_number_1 10 rfl rfl)
theorem dX7_number_33 : decode cX7_number 33 = .ok (.aload_n 0, 1) := dk_42 (dk_at dksX7_number_1 11 rfl rfl)
theorem dX7_number_34 : decode cX7_number 34 = .ok (.getfield 26, 3) := dk_180 0 26 (dk_at dksX7_number_1 12 rfl rfl)
theorem dX7_number_37 : decode cX7_number 37 = .ok (.invokevirtual 50, 3) := dk_182 0 50 (dk_at dksX7_number_1 15 rfl rfl)
theorem dX7_number_40 : decode cX7_number 40 = .ok (.bipush 10, 2) := dk_16 10 (dk_at dksX7_number_1 18 rfl rfl)
theorem dX7_number_42 : decode cX7_number 42 = .ok (.iload_n 2, 1) := dk_28 (dk_at dksX7_number_1 20 rfl rfl)
theorem dX7_number_43 : decode cX7_number 43 = .ok (.imul, 1) := dk_104 (dk_at dksX7_number_1 21 rfl rfl)
theorem dX7_number_44 : decode cX7_number 44 = .ok (.aload_n 0, 1) := dk_42 (dk_at dksX7_number_1 22 rfl rfl)
theorem dX7_number_45 : decode cX7_number 45 = .ok (.invokevirtual 39, 3) := dk_182 0 39 (dk_at dksX7_number_2 0 rfl rfl)
theorem dX7_number_48 : decode cX7_number 48 = .ok (.iadd, 1) := dk_96 (dk_at dksX7_number_2 3 rfl rfl)
theorem dX7_number_49 : decode cX7_number 49 = .ok (.bipush 48, 2) := dk_16 48 (dk_at dksX7_number_2 4 rfl rfl)
theorem dX7_number_51 : decode cX7_number 51 = .ok (.isub, 1) := dk_100 (dk_at dksX7_number_2 6 rfl rfl)
theorem dX7_number_52 : decode cX7_number 52 = .ok (.istore_n 2, 1) := dk_61 (dk_at dksX7_number_2 7 rfl rfl)
theorem dX7_number_53 : decode cX7_number 53 = .ok (.aload_n 0, 1) := dk_42 (dk_at dksX7_number_2 8 rfl rfl)
theorem dX7_number_54 : decode cX7_number 54 = .ok (.dup, 1) := dk_89 (dk_at dksX7_number_2 9 rfl rfl)
theorem dX7_number_55 : decode cX7_number 55 = .ok (.getfield 26, 3) := dk_180 0 26 (dk_at dksX7_number_2 10 rfl rfl)
theorem dX7_number_58 : decode cX7_number 58 = .ok (.iconst 1, 1) := dk_4 (dk_at dksX7_number_2 13 rfl rfl)
theorem dX7_number_59 : decode cX7_number 59 = .ok (.iadd, 1) := dk_96 (dk_at dksX7_number_2 14 rfl rfl)
theorem dX7_number_60 : decode cX7_number 60 = .ok (.putfield 26, 3) := dk_181 0 26 (dk_at dksX7_number_2 15 rfl rfl)
theorem dX7_number_63 : decode cX7_number 63 = .ok (.goto (-56), 3) := dk_167 255 200 (dk_at dksX7_number_2 18 rfl rfl)
theorem dX7_number_66 : decode cX7_number 66 = .ok (.iload_n 2, 1) := dk_28 (dk_at dksX7_number_2 21 rfl rfl)
theorem dX7_number_67 : decode cX7_number 67 = .ok (.ireturn, 1) := dk_172 (dk_at dksX7_number_2 22 rfl rfl)
abbrev cX7_condition : ByteArray := prog_11_method_14_code
def yX7_condition : MethodName := ⟨RX7, "condition", "()LInsuredFlame$Condition;"⟩
def dkwX7_condition_4 : List UInt8 := [42, 89, 180, 0, 54, 4, 100, 181, 0, 54, 43, 176]
abbrev dktX7_condition_4 : List UInt8 := dkwX7_condition_4 ++ []
def dkwX7_condition_3 : List UInt8 := [181, 0, 123, 44, 180, 0, 123, 77, 167, 255, 209, 42, 182, 0, 43, 153, 0, 9, 42, 16, 41, 182, 0, 64]
abbrev dktX7_condition_3 : List UInt8 := dkwX7_condition_3 ++ dktX7_condition_4
def dkwX7_condition_2 : List UInt8 := [89, 180, 0, 26, 4, 96, 181, 0, 26, 44, 187, 0, 118, 89, 42, 182, 0, 126, 4, 183, 0, 120]
abbrev dktX7_condition_2 : List UInt8 := dkwX7_condition_2 ++ dktX7_condition_3
def dkwX7_condition_1 : List UInt8 := [167, 0, 4, 1, 76, 43, 77, 42, 182, 0, 43, 153, 0, 46, 42, 182, 0, 39, 16, 124, 160, 0, 37, 42]
abbrev dktX7_condition_1 : List UInt8 := dkwX7_condition_1 ++ dktX7_condition_2
def dkwX7_condition_0 : List UInt8 := [42, 182, 0, 57, 42, 182, 0, 43, 153, 0, 18, 187, 0, 118, 89, 42, 182, 0, 126, 4, 183, 0, 120]
abbrev dktX7_condition_0 : List UInt8 := dkwX7_condition_0 ++ dktX7_condition_1
theorem dksX7_condition_0 : cX7_condition.data.toList.drop 0 = dktX7_condition_0 := by decide +kernel
theorem dksX7_condition_1 : cX7_condition.data.toList.drop 23 = dktX7_condition_1 := dk_seg dksX7_condition_0 23 rfl rfl
theorem dksX7_condition_2 : cX7_condition.data.toList.drop 47 = dktX7_condition_2 := dk_seg dksX7_condition_1 24 rfl rfl
theorem dksX7_condition_3 : cX7_condition.data.toList.drop 69 = dktX7_condition_3 := dk_seg dksX7_condition_2 22 rfl rfl
theorem dksX7_condition_4 : cX7_condition.data.toList.drop 93 = dktX7_condition_4 := dk_seg dksX7_condition_3 24 rfl rfl
theorem dX7_condition_0 : decode cX7_condition 0 = .ok (.aload_n 0, 1) := dk_42 (dk_at dksX7_condition_0 0 rfl rfl)
theorem dX7_condition_1 : decode cX7_condition 1 = .ok (.invokevirtual 57, 3) := dk_182 0 57 (dk_at dksX7_condition_0 1 rfl rfl)
theorem dX7_condition_4 : decode cX7_condition 4 = .ok (.aload_n 0, 1) := dk_42 (dk_at dksX7_condition_0 4 rfl rfl)
theorem dX7_condition_5 : decode cX7_condition 5 = .ok (.invokevirtual 43, 3) := dk_182 0 43 (dk_at dksX7_condition_0 5 rfl rfl)
theorem dX7_condition_8 : decode cX7_condition 8 = .ok (.ifCond .eq 18, 3) := dk_153 0 18 (dk_at dksX7_condition_0 8 rfl rfl)
theorem dX7_condition_11 : decode cX7_condition 11 = .ok (.new 118, 3) := dk_187 0 118 (dk_at dksX7_condition_0 11 rfl rfl)
theorem dX7_condition_14 : decode cX7_condition 14 = .ok (.dup, 1) := dk_89 (dk_at dksX7_condition_0 14 rfl rfl)
theorem dX7_condition_15 : decode cX7_condition 15 = .ok (.aload_n 0, 1) := dk_42 (dk_at dksX7_condition_0 15 rfl rfl)
theorem dX7_condition_16 : decode cX7_condition 16 = .ok (.invokevirtual 126, 3) := dk_182 0 126 (dk_at dksX7_condition_0 16 rfl rfl)
theorem dX7_condition_19 : decode cX7_condition 19 = .ok (.iconst 1, 1) := dk_4 (dk_at dksX7_condition_0 19 rfl rfl)
theorem dX7_condition_20 : decode cX7_condition 20 = .ok (.invokespecial 120, 3) := dk_183 0 120 (dk_at dksX7_condition_0 20 rfl rfl)
theorem dX7_condition_23 : decode cX7_condition 23 = .ok (.goto 4, 3) := dk_167 0 4 (dk_at dksX7_condition_1 0 rfl rfl)
theorem dX7_condition_26 : decode cX7_condition 26 = .ok (.aconst_null, 1) := dk_1 (dk_at dksX7_condition_1 3 rfl rfl)
theorem dX7_condition_27 : decode cX7_condition 27 = .ok (.astore_n 1, 1) := dk_76 (dk_at dksX7_condition_1 4 rfl rfl)
theorem dX7_condition_28 : decode cX7_condition 28 = .ok (.aload_n 1, 1) := dk_43 (dk_at dksX7_condition_1 5 rfl rfl)
theorem dX7_condition_29 : decode cX7_condition 29 = .ok (.astore_n 2, 1) := dk_77 (dk_at dksX7_condition_1 6 rfl rfl)
theorem dX7_condition_30 : decode cX7_condition 30 = .ok (.aload_n 0, 1) := dk_42 (dk_at dksX7_condition_1 7 rfl rfl)
theorem dX7_condition_31 : decode cX7_condition 31 = .ok (.invokevirtual 43, 3) := dk_182 0 43 (dk_at dksX7_condition_1 8 rfl rfl)
theorem dX7_condition_34 : decode cX7_condition 34 = .ok (.ifCond .eq 46, 3) := dk_153 0 46 (dk_at dksX7_condition_1 11 rfl rfl)
theorem dX7_condition_37 : decode cX7_condition 37 = .ok (.aload_n 0, 1) := dk_42 (dk_at dksX7_condition_1 14 rfl rfl)
theorem dX7_condition_38 : decode cX7_condition 38 = .ok (.invokevirtual 39, 3) := dk_182 0 39 (dk_at dksX7_condition_1 15 rfl rfl)
theorem dX7_condition_41 : decode cX7_condition 41 = .ok (.bipush 124, 2) := dk_16 124 (dk_at dksX7_condition_1 18 rfl rfl)
theorem dX7_condition_43 : decode cX7_condition 43 = .ok (.if_icmp .ne 37, 3) := dk_160 0 37 (dk_at dksX7_condition_1 20 rfl rfl)
theorem dX7_condition_46 : decode cX7_condition 46 = .ok (.aload_n 0, 1) := dk_42 (dk_at dksX7_condition_1 23 rfl rfl)
theorem dX7_condition_47 : decode cX7_condition 47 = .ok (.dup, 1) := dk_89 (dk_at dksX7_condition_2 0 rfl rfl)
theorem dX7_condition_48 : decode cX7_condition 48 = .ok (.getfield 26, 3) := dk_180 0 26 (dk_at dksX7_condition_2 1 rfl rfl)
theorem dX7_condition_51 : decode cX7_condition 51 = .ok (.iconst 1, 1) := dk_4 (dk_at dksX7_condition_2 4 rfl rfl)
theorem dX7_condition_52 : decode cX7_condition 52 = .ok (.iadd, 1) := dk_96 (dk_at dksX7_condition_2 5 rfl rfl)
theorem dX7_condition_53 : decode cX7_condition 53 = .ok (.putfield 26, 3) := dk_181 0 26 (dk_at dksX7_condition_2 6 rfl rfl)
theorem dX7_condition_56 : decode cX7_condition 56 = .ok (.aload_n 2, 1) := dk_44 (dk_at dksX7_condition_2 9 rfl rfl)
theorem dX7_condition_57 : decode cX7_condition 57 = .ok (.new 118, 3) := dk_187 0 118 (dk_at dksX7_condition_2 10 rfl rfl)
theorem dX7_condition_60 : decode cX7_condition 60 = .ok (.dup, 1) := dk_89 (dk_at dksX7_condition_2 13 rfl rfl)
theorem dX7_condition_61 : decode cX7_condition 61 = .ok (.aload_n 0, 1) := dk_42 (dk_at dksX7_condition_2 14 rfl rfl)
theorem dX7_condition_62 : decode cX7_condition 62 = .ok (.invokevirtual 126, 3) := dk_182 0 126 (dk_at dksX7_condition_2 15 rfl rfl)
theorem dX7_condition_65 : decode cX7_condition 65 = .ok (.iconst 1, 1) := dk_4 (dk_at dksX7_condition_2 18 rfl rfl)
theorem dX7_condition_66 : decode cX7_condition 66 = .ok (.invokespecial 120, 3) := dk_183 0 120 (dk_at dksX7_condition_2 19 rfl rfl)
theorem dX7_condition_69 : decode cX7_condition 69 = .ok (.putfield 123, 3) := dk_181 0 123 (dk_at dksX7_condition_3 0 rfl rfl)
theorem dX7_condition_72 : decode cX7_condition 72 = .ok (.aload_n 2, 1) := dk_44 (dk_at dksX7_condition_3 3 rfl rfl)
theorem dX7_condition_73 : decode cX7_condition 73 = .ok (.getfield 123, 3) := dk_180 0 123 (dk_at dksX7_condition_3 4 rfl rfl)
theorem dX7_condition_76 : decode cX7_condition 76 = .ok (.astore_n 2, 1) := dk_77 (dk_at dksX7_condition_3 7 rfl rfl)
theorem dX7_condition_77 : decode cX7_condition 77 = .ok (.goto (-47), 3) := dk_167 255 209 (dk_at dksX7_condition_3 8 rfl rfl)
theorem dX7_condition_80 : decode cX7_condition 80 = .ok (.aload_n 0, 1) := dk_42 (dk_at dksX7_condition_3 11 rfl rfl)
theorem dX7_condition_81 : decode cX7_condition 81 = .ok (.invokevirtual 43, 3) := dk_182 0 43 (dk_at dksX7_condition_3 12 rfl rfl)
theorem dX7_condition_84 : decode cX7_condition 84 = .ok (.ifCond .eq 9, 3) := dk_153 0 9 (dk_at dksX7_condition_3 15 rfl rfl)
theorem dX7_condition_87 : decode cX7_condition 87 = .ok (.aload_n 0, 1) := dk_42 (dk_at dksX7_condition_3 18 rfl rfl)
theorem dX7_condition_88 : decode cX7_condition 88 = .ok (.bipush 41, 2) := dk_16 41 (dk_at dksX7_condition_3 19 rfl rfl)
theorem dX7_condition_90 : decode cX7_condition 90 = .ok (.invokevirtual 64, 3) := dk_182 0 64 (dk_at dksX7_condition_3 21 rfl rfl)
theorem dX7_condition_93 : decode cX7_condition 93 = .ok (.aload_n 0, 1) := dk_42 (dk_at dksX7_condition_4 0 rfl rfl)
theorem dX7_condition_94 : decode cX7_condition 94 = .ok (.dup, 1) := dk_89 (dk_at dksX7_condition_4 1 rfl rfl)
theorem dX7_condition_95 : decode cX7_condition 95 = .ok (.getfield 54, 3) := dk_180 0 54 (dk_at dksX7_condition_4 2 rfl rfl)
theorem dX7_condition_98 : decode cX7_condition 98 = .ok (.iconst 1, 1) := dk_4 (dk_at dksX7_condition_4 5 rfl rfl)
theorem dX7_condition_99 : decode cX7_condition 99 = .ok (.isub, 1) := dk_100 (dk_at dksX7_condition_4 6 rfl rfl)
theorem dX7_condition_100 : decode cX7_condition 100 = .ok (.putfield 54, 3) := dk_181 0 54 (dk_at dksX7_condition_4 7 rfl rfl)
theorem dX7_condition_103 : decode cX7_condition 103 = .ok (.aload_n 1, 1) := dk_43 (dk_at dksX7_condition_4 10 rfl rfl)
theorem dX7_condition_104 : decode cX7_condition 104 = .ok (.areturn, 1) := dk_176 (dk_at dksX7_condition_4 11 rfl rfl)
abbrev cX7_pieces : ByteArray := prog_11_method_13_code
def yX7_pieces : MethodName := ⟨RX7, "pieces", "()LInsuredFlame$Condition;"⟩
def dkwX7_pieces_2 : List UInt8 := [182, 0, 101, 3, 183, 0, 120, 181, 0, 123, 44, 180, 0, 123, 77, 167, 255, 209, 43, 176]
abbrev dktX7_pieces_2 : List UInt8 := dkwX7_pieces_2 ++ []
def dkwX7_pieces_1 : List UInt8 := [182, 0, 39, 16, 38, 160, 0, 37, 42, 89, 180, 0, 26, 4, 96, 181, 0, 26, 44, 187, 0, 118, 89, 42]
abbrev dktX7_pieces_1 : List UInt8 := dkwX7_pieces_1 ++ dktX7_pieces_2
def dkwX7_pieces_0 : List UInt8 := [187, 0, 118, 89, 42, 182, 0, 101, 3, 183, 0, 120, 76, 43, 77, 42, 182, 0, 43, 153, 0, 46, 42]
abbrev dktX7_pieces_0 : List UInt8 := dkwX7_pieces_0 ++ dktX7_pieces_1
theorem dksX7_pieces_0 : cX7_pieces.data.toList.drop 0 = dktX7_pieces_0 := by decide +kernel
theorem dksX7_pieces_1 : cX7_pieces.data.toList.drop 23 = dktX7_pieces_1 := dk_seg dksX7_pieces_0 23 rfl rfl
theorem dksX7_pieces_2 : cX7_pieces.data.toList.drop 47 = dktX7_pieces_2 := dk_seg dksX7_pieces_1 24 rfl rfl
theorem dX7_pieces_0 : decode cX7_pieces 0 = .ok (.new 118, 3) := dk_187 0 118 (dk_at dksX7_pieces_0 0 rfl rfl)
theorem dX7_pieces_3 : decode cX7_pieces 3 = .ok (.dup, 1) := dk_89 (dk_at dksX7_pieces_0 3 rfl rfl)
theorem dX7_pieces_4 : decode cX7_pieces 4 = .ok (.aload_n 0, 1) := dk_42 (dk_at dksX7_pieces_0 4 rfl rfl)
theorem dX7_pieces_5 : decode cX7_pieces 5 = .ok (.invokevirtual 101, 3) := dk_182 0 101 (dk_at dksX7_pieces_0 5 rfl rfl)
theorem dX7_pieces_8 : decode cX7_pieces 8 = .ok (.iconst 0, 1) := dk_3 (dk_at dksX7_pieces_0 8 rfl rfl)
theorem dX7_pieces_9 : decode cX7_pieces 9 = .ok (.invokespecial 120, 3) := dk_183 0 120 (dk_at dksX7_pieces_0 9 rfl rfl)
theorem dX7_pieces_12 : decode cX7_pieces 12 = .ok (.astore_n 1, 1) := dk_76 (dk_at dksX7_pieces_0 12 rfl rfl)
theorem dX7_pieces_13 : decode cX7_pieces 13 = .ok (.aload_n 1, 1) := dk_43 (dk_at dksX7_pieces_0 13 rfl rfl)
theorem dX7_pieces_14 : decode cX7_pieces 14 = .ok (.astore_n 2, 1) := dk_77 (dk_at dksX7_pieces_0 14 rfl rfl)
theorem dX7_pieces_15 : decode cX7_pieces 15 = .ok (.aload_n 0, 1) := dk_42 (dk_at dksX7_pieces_0 15 rfl rfl)
theorem dX7_pieces_16 : decode cX7_pieces 16 = .ok (.invokevirtual 43, 3) := dk_182 0 43 (dk_at dksX7_pieces_0 16 rfl rfl)
theorem dX7_pieces_19 : decode cX7_pieces 19 = .ok (.ifCond .eq 46, 3) := dk_153 0 46 (dk_at dksX7_pieces_0 19 rfl rfl)
theorem dX7_pieces_22 : decode cX7_pieces 22 = .ok (.aload_n 0, 1) := dk_42 (dk_at dksX7_pieces_0 22 rfl rfl)
theorem dX7_pieces_23 : decode cX7_pieces 23 = .ok (.invokevirtual 39, 3) := dk_182 0 39 (dk_at dksX7_pieces_1 0 rfl rfl)
theorem dX7_pieces_26 : decode cX7_pieces 26 = .ok (.bipush 38, 2) := dk_16 38 (dk_at dksX7_pieces_1 3 rfl rfl)
theorem dX7_pieces_28 : decode cX7_pieces 28 = .ok (.if_icmp .ne 37, 3) := dk_160 0 37 (dk_at dksX7_pieces_1 5 rfl rfl)
theorem dX7_pieces_31 : decode cX7_pieces 31 = .ok (.aload_n 0, 1) := dk_42 (dk_at dksX7_pieces_1 8 rfl rfl)
theorem dX7_pieces_32 : decode cX7_pieces 32 = .ok (.dup, 1) := dk_89 (dk_at dksX7_pieces_1 9 rfl rfl)
theorem dX7_pieces_33 : decode cX7_pieces 33 = .ok (.getfield 26, 3) := dk_180 0 26 (dk_at dksX7_pieces_1 10 rfl rfl)
theorem dX7_pieces_36 : decode cX7_pieces 36 = .ok (.iconst 1, 1) := dk_4 (dk_at dksX7_pieces_1 13 rfl rfl)
theorem dX7_pieces_37 : decode cX7_pieces 37 = .ok (.iadd, 1) := dk_96 (dk_at dksX7_pieces_1 14 rfl rfl)
theorem dX7_pieces_38 : decode cX7_pieces 38 = .ok (.putfield 26, 3) := dk_181 0 26 (dk_at dksX7_pieces_1 15 rfl rfl)
theorem dX7_pieces_41 : decode cX7_pieces 41 = .ok (.aload_n 2, 1) := dk_44 (dk_at dksX7_pieces_1 18 rfl rfl)
theorem dX7_pieces_42 : decode cX7_pieces 42 = .ok (.new 118, 3) := dk_187 0 118 (dk_at dksX7_pieces_1 19 rfl rfl)
theorem dX7_pieces_45 : decode cX7_pieces 45 = .ok (.dup, 1) := dk_89 (dk_at dksX7_pieces_1 22 rfl rfl)
theorem dX7_pieces_46 : decode cX7_pieces 46 = .ok (.aload_n 0, 1) := dk_42 (dk_at dksX7_pieces_1 23 rfl rfl)
theorem dX7_pieces_47 : decode cX7_pieces 47 = .ok (.invokevirtual 101, 3) := dk_182 0 101 (dk_at dksX7_pieces_2 0 rfl rfl)
theorem dX7_pieces_50 : decode cX7_pieces 50 = .ok (.iconst 0, 1) := dk_3 (dk_at dksX7_pieces_2 3 rfl rfl)
theorem dX7_pieces_51 : decode cX7_pieces 51 = .ok (.invokespecial 120, 3) := dk_183 0 120 (dk_at dksX7_pieces_2 4 rfl rfl)
theorem dX7_pieces_54 : decode cX7_pieces 54 = .ok (.putfield 123, 3) := dk_181 0 123 (dk_at dksX7_pieces_2 7 rfl rfl)
theorem dX7_pieces_57 : decode cX7_pieces 57 = .ok (.aload_n 2, 1) := dk_44 (dk_at dksX7_pieces_2 10 rfl rfl)
theorem dX7_pieces_58 : decode cX7_pieces 58 = .ok (.getfield 123, 3) := dk_180 0 123 (dk_at dksX7_pieces_2 11 rfl rfl)
theorem dX7_pieces_61 : decode cX7_pieces 61 = .ok (.astore_n 2, 1) := dk_77 (dk_at dksX7_pieces_2 14 rfl rfl)
theorem dX7_pieces_62 : decode cX7_pieces 62 = .ok (.goto (-47), 3) := dk_167 255 209 (dk_at dksX7_pieces_2 15 rfl rfl)
theorem dX7_pieces_65 : decode cX7_pieces 65 = .ok (.aload_n 1, 1) := dk_43 (dk_at dksX7_pieces_2 18 rfl rfl)
theorem dX7_pieces_66 : decode cX7_pieces 66 = .ok (.areturn, 1) := dk_176 (dk_at dksX7_pieces_2 19 rfl rfl)
abbrev cX7_piece : ByteArray := prog_11_method_12_code
def yX7_piece : MethodName := ⟨RX7, "piece", "()LInsuredFlame$Condition;"⟩
def dkwX7_piece_5 : List UInt8 := [182, 0, 43, 153, 0, 10, 42, 182, 0, 60, 167, 0, 4, 1, 183, 0, 115, 176]
abbrev dktX7_piece_5 : List UInt8 := dkwX7_piece_5 ++ []
def dkwX7_piece_4 : List UInt8 := [180, 0, 26, 182, 0, 50, 42, 89, 180, 0, 26, 4, 96, 181, 0, 26, 187, 0, 113, 89, 44, 29, 42]
abbrev dktX7_piece_4 : List UInt8 := dkwX7_piece_4 ++ dktX7_piece_5
def dkwX7_piece_3 : List UInt8 := [62, 29, 16, 60, 159, 0, 24, 29, 16, 62, 159, 0, 18, 29, 16, 61, 159, 0, 12, 42, 4, 42]
abbrev dktX7_piece_3 : List UInt8 := dkwX7_piece_3 ++ dktX7_piece_4
def dkwX7_piece_2 : List UInt8 := [183, 0, 107, 176, 27, 16, 40, 160, 0, 8, 42, 182, 0, 110, 176, 42, 182, 0, 60, 77, 42, 182, 0, 39]
abbrev dktX7_piece_2 : List UInt8 := dkwX7_piece_2 ++ dktX7_piece_3
def dkwX7_piece_1 : List UInt8 := [182, 0, 101, 167, 0, 4, 1, 77, 42, 89, 180, 0, 54, 4, 100, 181, 0, 54, 187, 0, 105, 89, 44]
abbrev dktX7_piece_1 : List UInt8 := dkwX7_piece_1 ++ dktX7_piece_2
def dkwX7_piece_0 : List UInt8 := [42, 182, 0, 39, 60, 27, 16, 33, 160, 0, 42, 42, 182, 0, 57, 42, 182, 0, 43, 153, 0, 10, 42]
abbrev dktX7_piece_0 : List UInt8 := dkwX7_piece_0 ++ dktX7_piece_1
theorem dksX7_piece_0 : cX7_piece.data.toList.drop 0 = dktX7_piece_0 := by decide +kernel
theorem dksX7_piece_1 : cX7_piece.data.toList.drop 23 = dktX7_piece_1 := dk_seg dksX7_piece_0 23 rfl rfl
theorem dksX7_piece_2 : cX7_piece.data.toList.drop 46 = dktX7_piece_2 := dk_seg dksX7_piece_1 23 rfl rfl
theorem dksX7_piece_3 : cX7_piece.data.toList.drop 70 = dktX7_piece_3 := dk_seg dksX7_piece_2 24 rfl rfl
theorem dksX7_piece_4 : cX7_piece.data.toList.drop 92 = dktX7_piece_4 := dk_seg dksX7_piece_3 22 rfl rfl
theorem dksX7_piece_5 : cX7_piece.data.toList.drop 115 = dktX7_piece_5 := dk_seg dksX7_piece_4 23 rfl rfl
theorem dX7_piece_0 : decode cX7_piece 0 = .ok (.aload_n 0, 1) := dk_42 (dk_at dksX7_piece_0 0 rfl rfl)
theorem dX7_piece_1 : decode cX7_piece 1 = .ok (.invokevirtual 39, 3) := dk_182 0 39 (dk_at dksX7_piece_0 1 rfl rfl)
theorem dX7_piece_4 : decode cX7_piece 4 = .ok (.istore_n 1, 1) := dk_60 (dk_at dksX7_piece_0 4 rfl rfl)
theorem dX7_piece_5 : decode cX7_piece 5 = .ok (.iload_n 1, 1) := dk_27 (dk_at dksX7_piece_0 5 rfl rfl)
theorem dX7_piece_6 : decode cX7_piece 6 = .ok (.bipush 33, 2) := dk_16 33 (dk_at dksX7_piece_0 6 rfl rfl)
theorem dX7_piece_8 : decode cX7_piece 8 = .ok (.if_icmp .ne 42, 3) := dk_160 0 42 (dk_at dksX7_piece_0 8 rfl rfl)
theorem dX7_piece_11 : decode cX7_piece 11 = .ok (.aload_n 0, 1) := dk_42 (dk_at dksX7_piece_0 11 rfl rfl)
theorem dX7_piece_12 : decode cX7_piece 12 = .ok (.invokevirtual 57, 3) := dk_182 0 57 (dk_at dksX7_piece_0 12 rfl rfl)
theorem dX7_piece_15 : decode cX7_piece 15 = .ok (.aload_n 0, 1) := dk_42 (dk_at dksX7_piece_0 15 rfl rfl)
theorem dX7_piece_16 : decode cX7_piece 16 = .ok (.invokevirtual 43, 3) := dk_182 0 43 (dk_at dksX7_piece_0 16 rfl rfl)
theorem dX7_piece_19 : decode cX7_piece 19 = .ok (.ifCond .eq 10, 3) := dk_153 0 10 (dk_at dksX7_piece_0 19 rfl rfl)
theorem dX7_piece_22 : decode cX7_piece 22 = .ok (.aload_n 0, 1) := dk_42 (dk_at dksX7_piece_0 22 rfl rfl)
theorem dX7_piece_23 : decode cX7_piece 23 = .ok (.invokevirtual 101, 3) := dk_182 0 101 (dk_at dksX7_piece_1 0 rfl rfl)
theorem dX7_piece_26 : decode cX7_piece 26 = .ok (.goto 4, 3) := dk_167 0 4 (dk_at dksX7_piece_1 3 rfl rfl)
theorem dX7_piece_29 : decode cX7_piece 29 = .ok (.aconst_null, 1) := dk_1 (dk_at dksX7_piece_1 6 rfl rfl)
theorem dX7_piece_30 : decode cX7_piece 30 = .ok (.astore_n 2, 1) := dk_77 (dk_at dksX7_piece_1 7 rfl rfl)
theorem dX7_piece_31 : decode cX7_piece 31 = .ok (.aload_n 0, 1) := dk_42 (dk_at dksX7_piece_1 8 rfl rfl)
theorem dX7_piece_32 : decode cX7_piece 32 = .ok (.dup, 1) := dk_89 (dk_at dksX7_piece_1 9 rfl rfl)
theorem dX7_piece_33 : decode cX7_piece 33 = .ok (.getfield 54, 3) := dk_180 0 54 (dk_at dksX7_piece_1 10 rfl rfl)
theorem dX7_piece_36 : decode cX7_piece 36 = .ok (.iconst 1, 1) := dk_4 (dk_at dksX7_piece_1 13 rfl rfl)
theorem dX7_piece_37 : decode cX7_piece 37 = .ok (.isub, 1) := dk_100 (dk_at dksX7_piece_1 14 rfl rfl)
theorem dX7_piece_38 : decode cX7_piece 38 = .ok (.putfield 54, 3) := dk_181 0 54 (dk_at dksX7_piece_1 15 rfl rfl)
theorem dX7_piece_41 : decode cX7_piece 41 = .ok (.new 105, 3) := dk_187 0 105 (dk_at dksX7_piece_1 18 rfl rfl)
theorem dX7_piece_44 : decode cX7_piece 44 = .ok (.dup, 1) := dk_89 (dk_at dksX7_piece_1 21 rfl rfl)
theorem dX7_piece_45 : decode cX7_piece 45 = .ok (.aload_n 2, 1) := dk_44 (dk_at dksX7_piece_1 22 rfl rfl)
theorem dX7_piece_46 : decode cX7_piece 46 = .ok (.invokespecial 107, 3) := dk_183 0 107 (dk_at dksX7_piece_2 0 rfl rfl)
theorem dX7_piece_49 : decode cX7_piece 49 = .ok (.areturn, 1) := dk_176 (dk_at dksX7_piece_2 3 rfl rfl)
theorem dX7_piece_50 : decode cX7_piece 50 = .ok (.iload_n 1, 1) := dk_27 (dk_at dksX7_piece_2 4 rfl rfl)
theorem dX7_piece_51 : decode cX7_piece 51 = .ok (.bipush 40, 2) := dk_16 40 (dk_at dksX7_piece_2 5 rfl rfl)
theorem dX7_piece_53 : decode cX7_piece 53 = .ok (.if_icmp .ne 8, 3) := dk_160 0 8 (dk_at dksX7_piece_2 7 rfl rfl)
theorem dX7_piece_56 : decode cX7_piece 56 = .ok (.aload_n 0, 1) := dk_42 (dk_at dksX7_piece_2 10 rfl rfl)
theorem dX7_piece_57 : decode cX7_piece 57 = .ok (.invokevirtual 110, 3) := dk_182 0 110 (dk_at dksX7_piece_2 11 rfl rfl)
theorem dX7_piece_60 : decode cX7_piece 60 = .ok (.areturn, 1) := dk_176 (dk_at dksX7_piece_2 14 rfl rfl)
theorem dX7_piece_61 : decode cX7_piece 61 = .ok (.aload_n 0, 1) := dk_42 (dk_at dksX7_piece_2 15 rfl rfl)
theorem dX7_piece_62 : decode cX7_piece 62 = .ok (.invokevirtual 60, 3) := dk_182 0 60 (dk_at dksX7_piece_2 16 rfl rfl)
theorem dX7_piece_65 : decode cX7_piece 65 = .ok (.astore_n 2, 1) := dk_77 (dk_at dksX7_piece_2 19 rfl rfl)
theorem dX7_piece_66 : decode cX7_piece 66 = .ok (.aload_n 0, 1) := dk_42 (dk_at dksX7_piece_2 20 rfl rfl)
theorem dX7_piece_67 : decode cX7_piece 67 = .ok (.invokevirtual 39, 3) := dk_182 0 39 (dk_at dksX7_piece_2 21 rfl rfl)
theorem dX7_piece_70 : decode cX7_piece 70 = .ok (.istore_n 3, 1) := dk_62 (dk_at dksX7_piece_3 0 rfl rfl)
theorem dX7_piece_71 : decode cX7_piece 71 = .ok (.iload_n 3, 1) := dk_29 (dk_at dksX7_piece_3 1 rfl rfl)
theorem dX7_piece_72 : decode cX7_piece 72 = .ok (.bipush 60, 2) := dk_16 60 (dk_at dksX7_piece_3 2 rfl rfl)
theorem dX7_piece_74 : decode cX7_piece 74 = .ok (.if_icmp .eq 24, 3) := dk_159 0 24 (dk_at dksX7_piece_3 4 rfl rfl)
theorem dX7_piece_77 : decode cX7_piece 77 = .ok (.iload_n 3, 1) := dk_29 (dk_at dksX7_piece_3 7 rfl rfl)
theorem dX7_piece_78 : decode cX7_piece 78 = .ok (.bipush 62, 2) := dk_16 62 (dk_at dksX7_piece_3 8 rfl rfl)
theorem dX7_piece_80 : decode cX7_piece 80 = .ok (.if_icmp .eq 18, 3) := dk_159 0 18 (dk_at dksX7_piece_3 10 rfl rfl)
theorem dX7_piece_83 : decode cX7_piece 83 = .ok (.iload_n 3, 1) := dk_29 (dk_at dksX7_piece_3 13 rfl rfl)
theorem dX7_piece_84 : decode cX7_piece 84 = .ok (.bipush 61, 2) := dk_16 61 (dk_at dksX7_piece_3 14 rfl rfl)
theorem dX7_piece_86 : decode cX7_piece 86 = .ok (.if_icmp .eq 12, 3) := dk_159 0 12 (dk_at dksX7_piece_3 16 rfl rfl)
theorem dX7_piece_89 : decode cX7_piece 89 = .ok (.aload_n 0, 1) := dk_42 (dk_at dksX7_piece_3 19 rfl rfl)
theorem dX7_piece_90 : decode cX7_piece 90 = .ok (.iconst 1, 1) := dk_4 (dk_at dksX7_piece_3 20 rfl rfl)
theorem dX7_piece_91 : decode cX7_piece 91 = .ok (.aload_n 0, 1) := dk_42 (dk_at dksX7_piece_3 21 rfl rfl)
theorem dX7_piece_92 : decode cX7_piece 92 = .ok (.getfield 26, 3) := dk_180 0 26 (dk_at dksX7_piece_4 0 rfl rfl)
theorem dX7_piece_95 : decode cX7_piece 95 = .ok (.invokevirtual 50, 3) := dk_182 0 50 (dk_at dksX7_piece_4 3 rfl rfl)
theorem dX7_piece_98 : decode cX7_piece 98 = .ok (.aload_n 0, 1) := dk_42 (dk_at dksX7_piece_4 6 rfl rfl)
theorem dX7_piece_99 : decode cX7_piece 99 = .ok (.dup, 1) := dk_89 (dk_at dksX7_piece_4 7 rfl rfl)
theorem dX7_piece_100 : decode cX7_piece 100 = .ok (.getfield 26, 3) := dk_180 0 26 (dk_at dksX7_piece_4 8 rfl rfl)
theorem dX7_piece_103 : decode cX7_piece 103 = .ok (.iconst 1, 1) := dk_4 (dk_at dksX7_piece_4 11 rfl rfl)
theorem dX7_piece_104 : decode cX7_piece 104 = .ok (.iadd, 1) := dk_96 (dk_at dksX7_piece_4 12 rfl rfl)
theorem dX7_piece_105 : decode cX7_piece 105 = .ok (.putfield 26, 3) := dk_181 0 26 (dk_at dksX7_piece_4 13 rfl rfl)
theorem dX7_piece_108 : decode cX7_piece 108 = .ok (.new 113, 3) := dk_187 0 113 (dk_at dksX7_piece_4 16 rfl rfl)
theorem dX7_piece_111 : decode cX7_piece 111 = .ok (.dup, 1) := dk_89 (dk_at dksX7_piece_4 19 rfl rfl)
theorem dX7_piece_112 : decode cX7_piece 112 = .ok (.aload_n 2, 1) := dk_44 (dk_at dksX7_piece_4 20 rfl rfl)
theorem dX7_piece_113 : decode cX7_piece 113 = .ok (.iload_n 3, 1) := dk_29 (dk_at dksX7_piece_4 21 rfl rfl)
theorem dX7_piece_114 : decode cX7_piece 114 = .ok (.aload_n 0, 1) := dk_42 (dk_at dksX7_piece_4 22 rfl rfl)
theorem dX7_piece_115 : decode cX7_piece 115 = .ok (.invokevirtual 43, 3) := dk_182 0 43 (dk_at dksX7_piece_5 0 rfl rfl)
theorem dX7_piece_118 : decode cX7_piece 118 = .ok (.ifCond .eq 10, 3) := dk_153 0 10 (dk_at dksX7_piece_5 3 rfl rfl)
theorem dX7_piece_121 : decode cX7_piece 121 = .ok (.aload_n 0, 1) := dk_42 (dk_at dksX7_piece_5 6 rfl rfl)
theorem dX7_piece_122 : decode cX7_piece 122 = .ok (.invokevirtual 60, 3) := dk_182 0 60 (dk_at dksX7_piece_5 7 rfl rfl)
theorem dX7_piece_125 : decode cX7_piece 125 = .ok (.goto 4, 3) := dk_167 0 4 (dk_at dksX7_piece_5 10 rfl rfl)
theorem dX7_piece_128 : decode cX7_piece 128 = .ok (.aconst_null, 1) := dk_1 (dk_at dksX7_piece_5 13 rfl rfl)
theorem dX7_piece_129 : decode cX7_piece 129 = .ok (.invokespecial 115, 3) := dk_183 0 115 (dk_at dksX7_piece_5 14 rfl rfl)
theorem dX7_piece_132 : decode cX7_piece 132 = .ok (.areturn, 1) := dk_176 (dk_at dksX7_piece_5 17 rfl rfl)
theorem q121 : (Jvm.Cond.initialized "InsuredFlame$Reader") ∈ lw_all := lw_g (lw_at lw_m1 8 rfl) rfl
theorem q280 : (Jvm.Cond.fieldLinkNest "InsuredFlame$Reader" (134 : Nat) "InsuredFlame$Text" "letters" "[I" "InsuredFlame") ∈ lw_tbl := lw_at lw_m1 167 rfl
theorem q282 : (Jvm.Cond.fieldLinkNest "InsuredFlame$Reader" (138 : Nat) "InsuredFlame$Text" "sums" "[LInsuredFlame$Sum;" "InsuredFlame") ∈ lw_tbl := lw_at lw_m1 169 rfl
theorem q284 : (Jvm.Cond.fieldLinkNest "InsuredFlame$Reader" (142 : Nat) "InsuredFlame$Text" "conditions" "[LInsuredFlame$Condition;" "InsuredFlame") ∈ lw_tbl := lw_at lw_m1 171 rfl
theorem q286 : (Jvm.Cond.fieldLinkNest "InsuredFlame$Reader" (131 : Nat) "InsuredFlame$Text" "many" "I" "InsuredFlame") ∈ lw_tbl := lw_at lw_m1 173 rfl
theorem q309 : (Jvm.Cond.fieldLinkNest "InsuredFlame$Reader" (29 : Nat) "InsuredFlame" "tape" "[B" "InsuredFlame") ∈ lw_tbl := lw_at lw_m1 196 rfl
theorem q375 : (Jvm.Cond.instantiable "InsuredFlame$Reader" (7 : Nat)) ∈ lw_all := lw_g (lw_at lw_m2 22 rfl) rfl
theorem q377 : (Jvm.Cond.instanceMethod ({ cls := "InsuredFlame$Reader", name := "<init>", desc := "(LInsuredFlame;I)V" } : Jvm.MethodName)) ∈ lw_all := lw_g (lw_at lw_m2 24 rfl) rfl
theorem q378 : (Jvm.Cond.code ({ cls := "InsuredFlame$Reader", name := "<init>", desc := "(LInsuredFlame;I)V" } : Jvm.MethodName) prog_11_method_1_code (3 : Nat) (Option.none : Option Jvm.ClassFile.FieldType)) ∈ lw_all := lw_g (lw_at lw_m2 25 rfl) rfl
theorem q379 : (Jvm.Cond.methodLink "InsuredFlame$Reader" (9 : Nat) ({ cls := "java/lang/Object", name := "<init>", desc := "()V" } : Jvm.MethodName)) ∈ lw_all := lw_g (lw_at lw_m2 26 rfl) rfl
theorem q380 : (Jvm.Cond.classLink "InsuredFlame$Reader" (15 : Nat) "InsuredFlame$Text") ∈ lw_all := lw_g (lw_at lw_m2 27 rfl) rfl
theorem q381 : (Jvm.Cond.methodLinkNest "InsuredFlame$Reader" (17 : Nat) ({ cls := "InsuredFlame$Text", name := "<init>", desc := "()V" } : Jvm.MethodName) "InsuredFlame") ∈ lw_tbl := lw_at lw_m2 28 rfl
theorem q382 : (Jvm.Cond.fieldLink "InsuredFlame$Reader" (22 : Nat) "InsuredFlame$Reader" "n" "I") ∈ lw_all := lw_g (lw_at lw_m2 29 rfl) rfl
theorem q383 : (Jvm.Cond.fieldLink "InsuredFlame$Reader" (18 : Nat) "InsuredFlame$Reader" "text" "LInsuredFlame$Text;") ∈ lw_all := lw_g (lw_at lw_m2 30 rfl) rfl
theorem q385 : (Jvm.Cond.fieldLink "InsuredFlame$Reader" (26 : Nat) "InsuredFlame$Reader" "at" "I") ∈ lw_all := lw_g (lw_at lw_m2 32 rfl) rfl
theorem q386 : (Jvm.Cond.fieldLink "InsuredFlame$Reader" (54 : Nat) "InsuredFlame$Reader" "open" "I") ∈ lw_all := lw_g (lw_at lw_m2 33 rfl) rfl
theorem q387 : (Jvm.Cond.fieldLink "InsuredFlame$Reader" (33 : Nat) "InsuredFlame$Reader" "fault" "I") ∈ lw_all := lw_g (lw_at lw_m2 34 rfl) rfl
theorem q388 : (Jvm.Cond.fieldLink "InsuredFlame$Reader" (36 : Nat) "InsuredFlame$Reader" "place" "I") ∈ lw_all := lw_g (lw_at lw_m2 35 rfl) rfl
theorem q389 : (Jvm.Cond.fieldLink "InsuredFlame$Reader" (3 : Nat) "InsuredFlame$Reader" "this$0" "LInsuredFlame;") ∈ lw_all := lw_g (lw_at lw_m2 36 rfl) rfl
theorem q390 : (Jvm.Cond.laysFinal "InsuredFlame$Reader" "InsuredFlame$Reader" "n" "I") ∈ lw_all := lw_g (lw_at lw_m2 37 rfl) rfl
theorem q391 : (Jvm.Cond.soleField "InsuredFlame$Reader" "n") ∈ lw_all := lw_g (lw_at lw_m2 38 rfl) rfl
theorem q392 : (Jvm.Cond.laysFinal "InsuredFlame$Reader" "InsuredFlame$Reader" "text" "LInsuredFlame$Text;") ∈ lw_all := lw_g (lw_at lw_m2 39 rfl) rfl
theorem q393 : (Jvm.Cond.soleField "InsuredFlame$Reader" "text") ∈ lw_all := lw_g (lw_at lw_m2 40 rfl) rfl
theorem q394 : (Jvm.Cond.lays "InsuredFlame$Reader" "InsuredFlame$Reader" "at" "I") ∈ lw_all := lw_g (lw_at lw_m2 41 rfl) rfl
theorem q395 : (Jvm.Cond.soleField "InsuredFlame$Reader" "at") ∈ lw_all := lw_g (lw_at lw_m2 42 rfl) rfl
theorem q396 : (Jvm.Cond.lays "InsuredFlame$Reader" "InsuredFlame$Reader" "open" "I") ∈ lw_all := lw_g (lw_at lw_m2 43 rfl) rfl
theorem q397 : (Jvm.Cond.soleField "InsuredFlame$Reader" "open") ∈ lw_all := lw_g (lw_at lw_m2 44 rfl) rfl
theorem q398 : (Jvm.Cond.lays "InsuredFlame$Reader" "InsuredFlame$Reader" "fault" "I") ∈ lw_all := lw_g (lw_at lw_m2 45 rfl) rfl
theorem q399 : (Jvm.Cond.soleField "InsuredFlame$Reader" "fault") ∈ lw_all := lw_g (lw_at lw_m2 46 rfl) rfl
theorem q400 : (Jvm.Cond.lays "InsuredFlame$Reader" "InsuredFlame$Reader" "place" "I") ∈ lw_all := lw_g (lw_at lw_m2 47 rfl) rfl
theorem q401 : (Jvm.Cond.soleField "InsuredFlame$Reader" "place") ∈ lw_all := lw_g (lw_at lw_m2 48 rfl) rfl
theorem q402 : (Jvm.Cond.laysFinal "InsuredFlame$Reader" "InsuredFlame$Reader" "this$0" "LInsuredFlame;") ∈ lw_all := lw_g (lw_at lw_m2 49 rfl) rfl
theorem q403 : (Jvm.Cond.soleField "InsuredFlame$Reader" "this$0") ∈ lw_all := lw_g (lw_at lw_m2 50 rfl) rfl
theorem q404 : (Jvm.Cond.superclass "InsuredFlame$Reader" "java/lang/Object") ∈ lw_all := lw_g (lw_at lw_m2 51 rfl) rfl
theorem q406 : (Jvm.Cond.instanceMethod ({ cls := "InsuredFlame$Reader", name := "read", desc := "()I" } : Jvm.MethodName)) ∈ lw_all := lw_g (lw_at lw_m2 53 rfl) rfl
theorem q407 : (Jvm.Cond.selects "InsuredFlame$Reader" ({ cls := "InsuredFlame$Reader", name := "read", desc := "()I" } : Jvm.MethodName) ({ cls := "InsuredFlame$Reader", name := "read", desc := "()I" } : Jvm.MethodName)) ∈ lw_all := lw_g (lw_at lw_m2 54 rfl) rfl
theorem q408 : (Jvm.Cond.code ({ cls := "InsuredFlame$Reader", name := "read", desc := "()I" } : Jvm.MethodName) prog_11_method_16_code (2 : Nat) (Option.some Jvm.ClassFile.FieldType.int)) ∈ lw_all := lw_g (lw_at lw_m2 55 rfl) rfl
theorem q409 : (Jvm.Cond.methodLink "InsuredFlame$Reader" (43 : Nat) ({ cls := "InsuredFlame$Reader", name := "isGood", desc := "()Z" } : Jvm.MethodName)) ∈ lw_all := lw_g (lw_at lw_m2 56 rfl) rfl
theorem q410 : (Jvm.Cond.privateMethod ({ cls := "InsuredFlame$Reader", name := "isGood", desc := "()Z" } : Jvm.MethodName)) ∈ lw_tbl := lw_at lw_m2 57 rfl
theorem q411 : (Jvm.Cond.instanceMethod ({ cls := "InsuredFlame$Reader", name := "isGood", desc := "()Z" } : Jvm.MethodName)) ∈ lw_all := lw_g (lw_at lw_m2 58 rfl) rfl
theorem q412 : (Jvm.Cond.code ({ cls := "InsuredFlame$Reader", name := "isGood", desc := "()Z" } : Jvm.MethodName) prog_11_method_3_code (1 : Nat) (Option.some Jvm.ClassFile.FieldType.boolean)) ∈ lw_all := lw_g (lw_at lw_m2 59 rfl) rfl
theorem q413 : (Jvm.Cond.methodLink "InsuredFlame$Reader" (146 : Nat) ({ cls := "InsuredFlame$Reader", name := "clause", desc := "()V" } : Jvm.MethodName)) ∈ lw_all := lw_g (lw_at lw_m2 60 rfl) rfl
theorem q414 : (Jvm.Cond.privateMethod ({ cls := "InsuredFlame$Reader", name := "clause", desc := "()V" } : Jvm.MethodName)) ∈ lw_tbl := lw_at lw_m2 61 rfl
theorem q415 : (Jvm.Cond.instanceMethod ({ cls := "InsuredFlame$Reader", name := "clause", desc := "()V" } : Jvm.MethodName)) ∈ lw_all := lw_g (lw_at lw_m2 62 rfl) rfl
theorem q416 : (Jvm.Cond.code ({ cls := "InsuredFlame$Reader", name := "clause", desc := "()V" } : Jvm.MethodName) prog_11_method_15_code (4 : Nat) (Option.none : Option Jvm.ClassFile.FieldType)) ∈ lw_all := lw_g (lw_at lw_m2 63 rfl) rfl
theorem q417 : (Jvm.Cond.methodLink "InsuredFlame$Reader" (39 : Nat) ({ cls := "InsuredFlame$Reader", name := "here", desc := "()I" } : Jvm.MethodName)) ∈ lw_all := lw_g (lw_at lw_m2 64 rfl) rfl
theorem q418 : (Jvm.Cond.privateMethod ({ cls := "InsuredFlame$Reader", name := "here", desc := "()I" } : Jvm.MethodName)) ∈ lw_tbl := lw_at lw_m2 65 rfl
theorem q419 : (Jvm.Cond.instanceMethod ({ cls := "InsuredFlame$Reader", name := "here", desc := "()I" } : Jvm.MethodName)) ∈ lw_all := lw_g (lw_at lw_m2 66 rfl) rfl
theorem q420 : (Jvm.Cond.code ({ cls := "InsuredFlame$Reader", name := "here", desc := "()I" } : Jvm.MethodName) prog_11_method_2_code (1 : Nat) (Option.some Jvm.ClassFile.FieldType.int)) ∈ lw_all := lw_g (lw_at lw_m2 67 rfl) rfl
theorem q421 : (Jvm.Cond.stringRef "InsuredFlame$Reader" (129 : Nat) "bsx") ∈ lw_tbl := lw_at lw_m2 68 rfl
theorem q422 : (Jvm.Cond.methodLink "InsuredFlame$Reader" (77 : Nat) ({ cls := "java/lang/String", name := "indexOf", desc := "(I)I" } : Jvm.MethodName)) ∈ lw_all := lw_g (lw_at lw_m2 69 rfl) rfl
theorem q508 : (Jvm.Cond.methodLink "InsuredFlame$Reader" (50 : Nat) ({ cls := "InsuredFlame$Reader", name := "bad", desc := "(II)V" } : Jvm.MethodName)) ∈ lw_all := lw_g (lw_at lw_m2 155 rfl) rfl
theorem q509 : (Jvm.Cond.privateMethod ({ cls := "InsuredFlame$Reader", name := "bad", desc := "(II)V" } : Jvm.MethodName)) ∈ lw_tbl := lw_at lw_m2 156 rfl
theorem q510 : (Jvm.Cond.instanceMethod ({ cls := "InsuredFlame$Reader", name := "bad", desc := "(II)V" } : Jvm.MethodName)) ∈ lw_all := lw_g (lw_at lw_m2 157 rfl) rfl
theorem q511 : (Jvm.Cond.code ({ cls := "InsuredFlame$Reader", name := "bad", desc := "(II)V" } : Jvm.MethodName) prog_11_method_4_code (3 : Nat) (Option.none : Option Jvm.ClassFile.FieldType)) ∈ lw_all := lw_g (lw_at lw_m2 158 rfl) rfl
theorem q512 : (Jvm.Cond.methodLink "InsuredFlame$Reader" (60 : Nat) ({ cls := "InsuredFlame$Reader", name := "sum", desc := "()LInsuredFlame$Sum;" } : Jvm.MethodName)) ∈ lw_all := lw_g (lw_at lw_m2 159 rfl) rfl
theorem q513 : (Jvm.Cond.privateMethod ({ cls := "InsuredFlame$Reader", name := "sum", desc := "()LInsuredFlame$Sum;" } : Jvm.MethodName)) ∈ lw_tbl := lw_at lw_m2 160 rfl
theorem q514 : (Jvm.Cond.instanceMethod ({ cls := "InsuredFlame$Reader", name := "sum", desc := "()LInsuredFlame$Sum;" } : Jvm.MethodName)) ∈ lw_all := lw_g (lw_at lw_m2 161 rfl) rfl
theorem q515 : (Jvm.Cond.code ({ cls := "InsuredFlame$Reader", name := "sum", desc := "()LInsuredFlame$Sum;" } : Jvm.MethodName) prog_11_method_11_code (4 : Nat) (Option.some (Jvm.ClassFile.FieldType.object "InsuredFlame$Sum"))) ∈ lw_all := lw_g (lw_at lw_m2 162 rfl) rfl
theorem q516 : (Jvm.Cond.classLink "InsuredFlame$Reader" (86 : Nat) "InsuredFlame$Row") ∈ lw_all := lw_g (lw_at lw_m2 163 rfl) rfl
theorem q518 : (Jvm.Cond.methodLink "InsuredFlame$Reader" (98 : Nat) ({ cls := "InsuredFlame$Reader", name := "product", desc := "()LInsuredFlame$Sum;" } : Jvm.MethodName)) ∈ lw_all := lw_g (lw_at lw_m2 165 rfl) rfl
theorem q519 : (Jvm.Cond.privateMethod ({ cls := "InsuredFlame$Reader", name := "product", desc := "()LInsuredFlame$Sum;" } : Jvm.MethodName)) ∈ lw_tbl := lw_at lw_m2 166 rfl
theorem q520 : (Jvm.Cond.instanceMethod ({ cls := "InsuredFlame$Reader", name := "product", desc := "()LInsuredFlame$Sum;" } : Jvm.MethodName)) ∈ lw_all := lw_g (lw_at lw_m2 167 rfl) rfl
theorem q521 : (Jvm.Cond.code ({ cls := "InsuredFlame$Reader", name := "product", desc := "()LInsuredFlame$Sum;" } : Jvm.MethodName) prog_11_method_10_code (4 : Nat) (Option.some (Jvm.ClassFile.FieldType.object "InsuredFlame$Sum"))) ∈ lw_all := lw_g (lw_at lw_m2 168 rfl) rfl
theorem q522 : (Jvm.Cond.methodLink "InsuredFlame$Reader" (88 : Nat) ({ cls := "InsuredFlame$Reader", name := "factor", desc := "()LInsuredFlame$Sum;" } : Jvm.MethodName)) ∈ lw_all := lw_g (lw_at lw_m2 169 rfl) rfl
theorem q523 : (Jvm.Cond.privateMethod ({ cls := "InsuredFlame$Reader", name := "factor", desc := "()LInsuredFlame$Sum;" } : Jvm.MethodName)) ∈ lw_tbl := lw_at lw_m2 170 rfl
theorem q524 : (Jvm.Cond.instanceMethod ({ cls := "InsuredFlame$Reader", name := "factor", desc := "()LInsuredFlame$Sum;" } : Jvm.MethodName)) ∈ lw_all := lw_g (lw_at lw_m2 171 rfl) rfl
theorem q525 : (Jvm.Cond.code ({ cls := "InsuredFlame$Reader", name := "factor", desc := "()LInsuredFlame$Sum;" } : Jvm.MethodName) prog_11_method_9_code (3 : Nat) (Option.some (Jvm.ClassFile.FieldType.object "InsuredFlame$Sum"))) ∈ lw_all := lw_g (lw_at lw_m2 172 rfl) rfl
theorem q526 : (Jvm.Cond.methodLink "InsuredFlame$Reader" (57 : Nat) ({ cls := "InsuredFlame$Reader", name := "opens", desc := "()V" } : Jvm.MethodName)) ∈ lw_all := lw_g (lw_at lw_m2 173 rfl) rfl
theorem q527 : (Jvm.Cond.privateMethod ({ cls := "InsuredFlame$Reader", name := "opens", desc := "()V" } : Jvm.MethodName)) ∈ lw_tbl := lw_at lw_m2 174 rfl
theorem q528 : (Jvm.Cond.instanceMethod ({ cls := "InsuredFlame$Reader", name := "opens", desc := "()V" } : Jvm.MethodName)) ∈ lw_all := lw_g (lw_at lw_m2 175 rfl) rfl
theorem q529 : (Jvm.Cond.code ({ cls := "InsuredFlame$Reader", name := "opens", desc := "()V" } : Jvm.MethodName) prog_11_method_8_code (1 : Nat) (Option.none : Option Jvm.ClassFile.FieldType)) ∈ lw_all := lw_g (lw_at lw_m2 176 rfl) rfl
theorem q530 : (Jvm.Cond.methodLink "InsuredFlame$Reader" (64 : Nat) ({ cls := "InsuredFlame$Reader", name := "must", desc := "(I)V" } : Jvm.MethodName)) ∈ lw_all := lw_g (lw_at lw_m2 177 rfl) rfl
theorem q531 : (Jvm.Cond.privateMethod ({ cls := "InsuredFlame$Reader", name := "must", desc := "(I)V" } : Jvm.MethodName)) ∈ lw_tbl := lw_at lw_m2 178 rfl
theorem q532 : (Jvm.Cond.instanceMethod ({ cls := "InsuredFlame$Reader", name := "must", desc := "(I)V" } : Jvm.MethodName)) ∈ lw_all := lw_g (lw_at lw_m2 179 rfl) rfl
theorem q533 : (Jvm.Cond.code ({ cls := "InsuredFlame$Reader", name := "must", desc := "(I)V" } : Jvm.MethodName) prog_11_method_7_code (2 : Nat) (Option.none : Option Jvm.ClassFile.FieldType)) ∈ lw_all := lw_g (lw_at lw_m2 180 rfl) rfl
theorem q534 : (Jvm.Cond.methodLink "InsuredFlame$Reader" (47 : Nat) ({ cls := "InsuredFlame$Reader", name := "seesDigit", desc := "()Z" } : Jvm.MethodName)) ∈ lw_all := lw_g (lw_at lw_m2 181 rfl) rfl
theorem q535 : (Jvm.Cond.privateMethod ({ cls := "InsuredFlame$Reader", name := "seesDigit", desc := "()Z" } : Jvm.MethodName)) ∈ lw_tbl := lw_at lw_m2 182 rfl
theorem q536 : (Jvm.Cond.instanceMethod ({ cls := "InsuredFlame$Reader", name := "seesDigit", desc := "()Z" } : Jvm.MethodName)) ∈ lw_all := lw_g (lw_at lw_m2 183 rfl) rfl
theorem q537 : (Jvm.Cond.code ({ cls := "InsuredFlame$Reader", name := "seesDigit", desc := "()Z" } : Jvm.MethodName) prog_11_method_5_code (1 : Nat) (Option.some Jvm.ClassFile.FieldType.boolean)) ∈ lw_all := lw_g (lw_at lw_m2 184 rfl) rfl
theorem q538 : (Jvm.Cond.classLink "InsuredFlame$Reader" (68 : Nat) "InsuredFlame$Number") ∈ lw_all := lw_g (lw_at lw_m2 185 rfl) rfl
theorem q540 : (Jvm.Cond.methodLink "InsuredFlame$Reader" (70 : Nat) ({ cls := "InsuredFlame$Reader", name := "number", desc := "()I" } : Jvm.MethodName)) ∈ lw_all := lw_g (lw_at lw_m2 187 rfl) rfl
theorem q541 : (Jvm.Cond.privateMethod ({ cls := "InsuredFlame$Reader", name := "number", desc := "()I" } : Jvm.MethodName)) ∈ lw_tbl := lw_at lw_m2 188 rfl
theorem q542 : (Jvm.Cond.instanceMethod ({ cls := "InsuredFlame$Reader", name := "number", desc := "()I" } : Jvm.MethodName)) ∈ lw_all := lw_g (lw_at lw_m2 189 rfl) rfl
theorem q543 : (Jvm.Cond.code ({ cls := "InsuredFlame$Reader", name := "number", desc := "()I" } : Jvm.MethodName) prog_11_method_6_code (3 : Nat) (Option.some Jvm.ClassFile.FieldType.int)) ∈ lw_all := lw_g (lw_at lw_m2 190 rfl) rfl
theorem q544 : (Jvm.Cond.methodLink "InsuredFlame$Reader" (73 : Nat) ({ cls := "InsuredFlame$Number", name := "<init>", desc := "(I)V" } : Jvm.MethodName)) ∈ lw_all := lw_g (lw_at lw_m2 191 rfl) rfl
theorem q555 : (Jvm.Cond.stringRef "InsuredFlame$Reader" (75 : Nat) "pmnvidgtw") ∈ lw_tbl := lw_at lw_m2 202 rfl
theorem q556 : (Jvm.Cond.classLink "InsuredFlame$Reader" (83 : Nat) "InsuredFlame$Letter") ∈ lw_all := lw_g (lw_at lw_m2 203 rfl) rfl
theorem q558 : (Jvm.Cond.methodLink "InsuredFlame$Reader" (85 : Nat) ({ cls := "InsuredFlame$Letter", name := "<init>", desc := "(I)V" } : Jvm.MethodName)) ∈ lw_all := lw_g (lw_at lw_m2 205 rfl) rfl
theorem q566 : (Jvm.Cond.methodLink "InsuredFlame$Reader" (91 : Nat) ({ cls := "InsuredFlame$Row", name := "<init>", desc := "(ILInsuredFlame$Sum;)V" } : Jvm.MethodName)) ∈ lw_all := lw_g (lw_at lw_m2 213 rfl) rfl
theorem q573 : (Jvm.Cond.fieldLinkNest "InsuredFlame$Reader" (94 : Nat) "InsuredFlame$Row" "next" "LInsuredFlame$Row;" "InsuredFlame") ∈ lw_tbl := lw_at lw_m2 220 rfl
theorem q581 : (Jvm.Cond.methodLink "InsuredFlame$Reader" (110 : Nat) ({ cls := "InsuredFlame$Reader", name := "condition", desc := "()LInsuredFlame$Condition;" } : Jvm.MethodName)) ∈ lw_all := lw_g (lw_at lw_m2 228 rfl) rfl
theorem q582 : (Jvm.Cond.privateMethod ({ cls := "InsuredFlame$Reader", name := "condition", desc := "()LInsuredFlame$Condition;" } : Jvm.MethodName)) ∈ lw_tbl := lw_at lw_m2 229 rfl
theorem q583 : (Jvm.Cond.instanceMethod ({ cls := "InsuredFlame$Reader", name := "condition", desc := "()LInsuredFlame$Condition;" } : Jvm.MethodName)) ∈ lw_all := lw_g (lw_at lw_m2 230 rfl) rfl
theorem q584 : (Jvm.Cond.code ({ cls := "InsuredFlame$Reader", name := "condition", desc := "()LInsuredFlame$Condition;" } : Jvm.MethodName) prog_11_method_14_code (3 : Nat) (Option.some (Jvm.ClassFile.FieldType.object "InsuredFlame$Condition"))) ∈ lw_all := lw_g (lw_at lw_m2 231 rfl) rfl
theorem q585 : (Jvm.Cond.classLink "InsuredFlame$Reader" (118 : Nat) "InsuredFlame$Some") ∈ lw_all := lw_g (lw_at lw_m2 232 rfl) rfl
theorem q587 : (Jvm.Cond.methodLink "InsuredFlame$Reader" (126 : Nat) ({ cls := "InsuredFlame$Reader", name := "pieces", desc := "()LInsuredFlame$Condition;" } : Jvm.MethodName)) ∈ lw_all := lw_g (lw_at lw_m2 234 rfl) rfl
theorem q588 : (Jvm.Cond.privateMethod ({ cls := "InsuredFlame$Reader", name := "pieces", desc := "()LInsuredFlame$Condition;" } : Jvm.MethodName)) ∈ lw_tbl := lw_at lw_m2 235 rfl
theorem q589 : (Jvm.Cond.instanceMethod ({ cls := "InsuredFlame$Reader", name := "pieces", desc := "()LInsuredFlame$Condition;" } : Jvm.MethodName)) ∈ lw_all := lw_g (lw_at lw_m2 236 rfl) rfl
theorem q590 : (Jvm.Cond.code ({ cls := "InsuredFlame$Reader", name := "pieces", desc := "()LInsuredFlame$Condition;" } : Jvm.MethodName) prog_11_method_13_code (3 : Nat) (Option.some (Jvm.ClassFile.FieldType.object "InsuredFlame$Condition"))) ∈ lw_all := lw_g (lw_at lw_m2 237 rfl) rfl
theorem q591 : (Jvm.Cond.methodLink "InsuredFlame$Reader" (101 : Nat) ({ cls := "InsuredFlame$Reader", name := "piece", desc := "()LInsuredFlame$Condition;" } : Jvm.MethodName)) ∈ lw_all := lw_g (lw_at lw_m2 238 rfl) rfl
theorem q592 : (Jvm.Cond.privateMethod ({ cls := "InsuredFlame$Reader", name := "piece", desc := "()LInsuredFlame$Condition;" } : Jvm.MethodName)) ∈ lw_tbl := lw_at lw_m2 239 rfl
theorem q593 : (Jvm.Cond.instanceMethod ({ cls := "InsuredFlame$Reader", name := "piece", desc := "()LInsuredFlame$Condition;" } : Jvm.MethodName)) ∈ lw_all := lw_g (lw_at lw_m3 0 rfl) rfl
theorem q594 : (Jvm.Cond.code ({ cls := "InsuredFlame$Reader", name := "piece", desc := "()LInsuredFlame$Condition;" } : Jvm.MethodName) prog_11_method_12_code (4 : Nat) (Option.some (Jvm.ClassFile.FieldType.object "InsuredFlame$Condition"))) ∈ lw_all := lw_g (lw_at lw_m3 1 rfl) rfl
theorem q595 : (Jvm.Cond.classLink "InsuredFlame$Reader" (105 : Nat) "InsuredFlame$Not") ∈ lw_all := lw_g (lw_at lw_m3 2 rfl) rfl
theorem q597 : (Jvm.Cond.methodLink "InsuredFlame$Reader" (107 : Nat) ({ cls := "InsuredFlame$Not", name := "<init>", desc := "(LInsuredFlame$Condition;)V" } : Jvm.MethodName)) ∈ lw_all := lw_g (lw_at lw_m3 4 rfl) rfl
theorem q608 : (Jvm.Cond.classLink "InsuredFlame$Reader" (113 : Nat) "InsuredFlame$Compared") ∈ lw_all := lw_g (lw_at lw_m3 15 rfl) rfl
theorem q610 : (Jvm.Cond.methodLink "InsuredFlame$Reader" (115 : Nat) ({ cls := "InsuredFlame$Compared", name := "<init>", desc := "(LInsuredFlame$Sum;ILInsuredFlame$Sum;)V" } : Jvm.MethodName)) ∈ lw_all := lw_g (lw_at lw_m3 17 rfl) rfl
theorem q624 : (Jvm.Cond.methodLink "InsuredFlame$Reader" (120 : Nat) ({ cls := "InsuredFlame$Some", name := "<init>", desc := "(LInsuredFlame$Condition;I)V" } : Jvm.MethodName)) ∈ lw_all := lw_g (lw_at lw_m3 31 rfl) rfl
theorem q631 : (Jvm.Cond.fieldLinkNest "InsuredFlame$Reader" (123 : Nat) "InsuredFlame$Some" "next" "LInsuredFlame$Some;" "InsuredFlame") ∈ lw_tbl := lw_at lw_m3 38 rfl
theorem in_X7 : ∀ w ∈ wsX70, w ∈ lw_all := lw_in wsX70 [390, 392, 394, 396, 398, 400, 402] (by decide +kernel) (by decide +kernel)
/-! InsuredFlame$Scribe -/
set_option maxRecDepth 100000
def RX16 : String := "InsuredFlame$Scribe"
abbrev cX16_init : ByteArray := prog_13_method_1_code
def yX16_init : MethodName := ⟨RX16, "<init>", "(LInsuredFlame;I)V"⟩
def dkwX16_init_0 : List UInt8 := [42, 43, 181, 0, 1, 42, 183, 0, 7, 42, 28, 181, 0, 13, 177]
abbrev dktX16_init_0 : List UInt8 := dkwX16_init_0 ++ []
theorem dksX16_init_0 : cX16_init.data.toList.drop 0 = dktX16_init_0 := by decide +kernel
theorem dX16_init_0 : decode cX16_init 0 = .ok (.aload_n 0, 1) := dk_42 (dk_at dksX16_init_0 0 rfl rfl)
theorem dX16_init_1 : decode cX16_init 1 = .ok (.aload_n 1, 1) := dk_43 (dk_at dksX16_init_0 1 rfl rfl)
theorem dX16_init_2 : decode cX16_init 2 = .ok (.putfield 1, 3) := dk_181 0 1 (dk_at dksX16_init_0 2 rfl rfl)
theorem dX16_init_5 : decode cX16_init 5 = .ok (.aload_n 0, 1) := dk_42 (dk_at dksX16_init_0 5 rfl rfl)
theorem dX16_init_6 : decode cX16_init 6 = .ok (.invokespecial 7, 3) := dk_183 0 7 (dk_at dksX16_init_0 6 rfl rfl)
theorem dX16_init_9 : decode cX16_init 9 = .ok (.aload_n 0, 1) := dk_42 (dk_at dksX16_init_0 9 rfl rfl)
theorem dX16_init_10 : decode cX16_init 10 = .ok (.iload_n 2, 1) := dk_28 (dk_at dksX16_init_0 10 rfl rfl)
theorem dX16_init_11 : decode cX16_init 11 = .ok (.putfield 13, 3) := dk_181 0 13 (dk_at dksX16_init_0 11 rfl rfl)
theorem dX16_init_14 : decode cX16_init 14 = .ok (.return_, 1) := dk_177 (dk_at dksX16_init_0 14 rfl rfl)
abbrev cX16_sees : ByteArray := prog_13_method_9_code
def yX16_sees : MethodName := ⟨RX16, "sees", "(II)Z"⟩
def dkwX16_sees_0 : List UInt8 := [42, 182, 0, 36, 27, 161, 0, 15, 42, 182, 0, 36, 28, 163, 0, 7, 4, 167, 0, 4, 3, 172]
abbrev dktX16_sees_0 : List UInt8 := dkwX16_sees_0 ++ []
theorem dksX16_sees_0 : cX16_sees.data.toList.drop 0 = dktX16_sees_0 := by decide +kernel
theorem dX16_sees_0 : decode cX16_sees 0 = .ok (.aload_n 0, 1) := dk_42 (dk_at dksX16_sees_0 0 rfl rfl)
theorem dX16_sees_1 : decode cX16_sees 1 = .ok (.invokevirtual 36, 3) := dk_182 0 36 (dk_at dksX16_sees_0 1 rfl rfl)
theorem dX16_sees_4 : decode cX16_sees 4 = .ok (.iload_n 1, 1) := dk_27 (dk_at dksX16_sees_0 4 rfl rfl)
theorem dX16_sees_5 : decode cX16_sees 5 = .ok (.if_icmp .lt 15, 3) := dk_161 0 15 (dk_at dksX16_sees_0 5 rfl rfl)
theorem dX16_sees_8 : decode cX16_sees 8 = .ok (.aload_n 0, 1) := dk_42 (dk_at dksX16_sees_0 8 rfl rfl)
theorem dX16_sees_9 : decode cX16_sees 9 = .ok (.invokevirtual 36, 3) := dk_182 0 36 (dk_at dksX16_sees_0 9 rfl rfl)
theorem dX16_sees_12 : decode cX16_sees 12 = .ok (.iload_n 2, 1) := dk_28 (dk_at dksX16_sees_0 12 rfl rfl)
theorem dX16_sees_13 : decode cX16_sees 13 = .ok (.if_icmp .gt 7, 3) := dk_163 0 7 (dk_at dksX16_sees_0 13 rfl rfl)
theorem dX16_sees_16 : decode cX16_sees 16 = .ok (.iconst 1, 1) := dk_4 (dk_at dksX16_sees_0 16 rfl rfl)
theorem dX16_sees_17 : decode cX16_sees 17 = .ok (.goto 4, 3) := dk_167 0 4 (dk_at dksX16_sees_0 17 rfl rfl)
theorem dX16_sees_20 : decode cX16_sees 20 = .ok (.iconst 0, 1) := dk_3 (dk_at dksX16_sees_0 20 rfl rfl)
theorem dX16_sees_21 : decode cX16_sees 21 = .ok (.ireturn, 1) := dk_172 (dk_at dksX16_sees_0 21 rfl rfl)
abbrev cX16_here : ByteArray := prog_13_method_2_code
def yX16_here : MethodName := ⟨RX16, "here", "()I"⟩
def dkwX16_here_1 : List UInt8 := [17, 0, 255, 126, 167, 0, 4, 3, 172]
abbrev dktX16_here_1 : List UInt8 := dkwX16_here_1 ++ []
def dkwX16_here_0 : List UInt8 := [42, 180, 0, 17, 42, 180, 0, 13, 162, 0, 22, 42, 180, 0, 1, 180, 0, 20, 42, 180, 0, 17, 51]
abbrev dktX16_here_0 : List UInt8 := dkwX16_here_0 ++ dktX16_here_1
theorem dksX16_here_0 : cX16_here.data.toList.drop 0 = dktX16_here_0 := by decide +kernel
theorem dksX16_here_1 : cX16_here.data.toList.drop 23 = dktX16_here_1 := dk_seg dksX16_here_0 23 rfl rfl
theorem dX16_here_0 : decode cX16_here 0 = .ok (.aload_n 0, 1) := dk_42 (dk_at dksX16_here_0 0 rfl rfl)
theorem dX16_here_1 : decode cX16_here 1 = .ok (.getfield 17, 3) := dk_180 0 17 (dk_at dksX16_here_0 1 rfl rfl)
theorem dX16_here_4 : decode cX16_here 4 = .ok (.aload_n 0, 1) := dk_42 (dk_at dksX16_here_0 4 rfl rfl)
theorem dX16_here_5 : decode cX16_here 5 = .ok (.getfield 13, 3) := dk_180 0 13 (dk_at dksX16_here_0 5 rfl rfl)
theorem dX16_here_8 : decode cX16_here 8 = .ok (.if_icmp .ge 22, 3) := dk_162 0 22 (dk_at dksX16_here_0 8 rfl rfl)
theorem dX16_here_11 : decode cX16_here 11 = .ok (.aload_n 0, 1) := dk_42 (dk_at dksX16_here_0 11 rfl rfl)
theorem dX16_here_12 : decode cX16_here 12 = .ok (.getfield 1, 3) := dk_180 0 1 (dk_at dksX16_here_0 12 rfl rfl)
theorem dX16_here_15 : decode cX16_here 15 = .ok (.getfield 20, 3) := dk_180 0 20 (dk_at dksX16_here_0 15 rfl rfl)
theorem dX16_here_18 : decode cX16_here 18 = .ok (.aload_n 0, 1) := dk_42 (dk_at dksX16_here_0 18 rfl rfl)
theorem dX16_here_19 : decode cX16_here 19 = .ok (.getfield 17, 3) := dk_180 0 17 (dk_at dksX16_here_0 19 rfl rfl)
theorem dX16_here_22 : decode cX16_here 22 = .ok (.baload, 1) := dk_51 (dk_at dksX16_here_0 22 rfl rfl)
theorem dX16_here_23 : decode cX16_here 23 = .ok (.sipush 255, 3) := dk_17 0 255 (dk_at dksX16_here_1 0 rfl rfl)
theorem dX16_here_26 : decode cX16_here 26 = .ok (.iand, 1) := dk_126 (dk_at dksX16_here_1 3 rfl rfl)
theorem dX16_here_27 : decode cX16_here 27 = .ok (.goto 4, 3) := dk_167 0 4 (dk_at dksX16_here_1 4 rfl rfl)
theorem dX16_here_30 : decode cX16_here 30 = .ok (.iconst 0, 1) := dk_3 (dk_at dksX16_here_1 7 rfl rfl)
theorem dX16_here_31 : decode cX16_here 31 = .ok (.ireturn, 1) := dk_172 (dk_at dksX16_here_1 8 rfl rfl)
abbrev cX16_place : ByteArray := prog_13_method_3_code
def yX16_place : MethodName := ⟨RX16, "place", "()I"⟩
theorem dX16_place_0 : decode cX16_place 0 = .ok (.aload_n 0, 1) := by decide +kernel
theorem dX16_place_1 : decode cX16_place 1 = .ok (.getfield 17, 3) := by decide +kernel
theorem dX16_place_4 : decode cX16_place 4 = .ok (.ireturn, 1) := by decide +kernel
abbrev cX16_bad : ByteArray := prog_13_method_6_code
def yX16_bad : MethodName := ⟨RX16, "bad", "(II)V"⟩
def dkwX16_bad_0 : List UInt8 := [42, 180, 0, 26, 158, 0, 4, 177, 42, 27, 181, 0, 26, 42, 28, 181, 0, 29, 177]
abbrev dktX16_bad_0 : List UInt8 := dkwX16_bad_0 ++ []
theorem dksX16_bad_0 : cX16_bad.data.toList.drop 0 = dktX16_bad_0 := by decide +kernel
theorem dX16_bad_0 : decode cX16_bad 0 = .ok (.aload_n 0, 1) := dk_42 (dk_at dksX16_bad_0 0 rfl rfl)
theorem dX16_bad_1 : decode cX16_bad 1 = .ok (.getfield 26, 3) := dk_180 0 26 (dk_at dksX16_bad_0 1 rfl rfl)
theorem dX16_bad_4 : decode cX16_bad 4 = .ok (.ifCond .le 4, 3) := dk_158 0 4 (dk_at dksX16_bad_0 4 rfl rfl)
theorem dX16_bad_7 : decode cX16_bad 7 = .ok (.return_, 1) := dk_177 (dk_at dksX16_bad_0 7 rfl rfl)
theorem dX16_bad_8 : decode cX16_bad 8 = .ok (.aload_n 0, 1) := dk_42 (dk_at dksX16_bad_0 8 rfl rfl)
theorem dX16_bad_9 : decode cX16_bad 9 = .ok (.iload_n 1, 1) := dk_27 (dk_at dksX16_bad_0 9 rfl rfl)
theorem dX16_bad_10 : decode cX16_bad 10 = .ok (.putfield 26, 3) := dk_181 0 26 (dk_at dksX16_bad_0 10 rfl rfl)
theorem dX16_bad_13 : decode cX16_bad 13 = .ok (.aload_n 0, 1) := dk_42 (dk_at dksX16_bad_0 13 rfl rfl)
theorem dX16_bad_14 : decode cX16_bad 14 = .ok (.iload_n 2, 1) := dk_28 (dk_at dksX16_bad_0 14 rfl rfl)
theorem dX16_bad_15 : decode cX16_bad 15 = .ok (.putfield 29, 3) := dk_181 0 29 (dk_at dksX16_bad_0 15 rfl rfl)
theorem dX16_bad_18 : decode cX16_bad 18 = .ok (.return_, 1) := dk_177 (dk_at dksX16_bad_0 18 rfl rfl)
abbrev cX16_isGood : ByteArray := prog_13_method_7_code
def yX16_isGood : MethodName := ⟨RX16, "isGood", "()Z"⟩
def dkwX16_isGood_0 : List UInt8 := [42, 180, 0, 26, 154, 0, 7, 4, 167, 0, 4, 3, 172]
abbrev dktX16_isGood_0 : List UInt8 := dkwX16_isGood_0 ++ []
theorem dksX16_isGood_0 : cX16_isGood.data.toList.drop 0 = dktX16_isGood_0 := by decide +kernel
theorem dX16_isGood_0 : decode cX16_isGood 0 = .ok (.aload_n 0, 1) := dk_42 (dk_at dksX16_isGood_0 0 rfl rfl)
theorem dX16_isGood_1 : decode cX16_isGood 1 = .ok (.getfield 26, 3) := dk_180 0 26 (dk_at dksX16_isGood_0 1 rfl rfl)
theorem dX16_isGood_4 : decode cX16_isGood 4 = .ok (.ifCond .ne 7, 3) := dk_154 0 7 (dk_at dksX16_isGood_0 4 rfl rfl)
theorem dX16_isGood_7 : decode cX16_isGood 7 = .ok (.iconst 1, 1) := dk_4 (dk_at dksX16_isGood_0 7 rfl rfl)
theorem dX16_isGood_8 : decode cX16_isGood 8 = .ok (.goto 4, 3) := dk_167 0 4 (dk_at dksX16_isGood_0 8 rfl rfl)
theorem dX16_isGood_11 : decode cX16_isGood 11 = .ok (.iconst 0, 1) := dk_3 (dk_at dksX16_isGood_0 11 rfl rfl)
theorem dX16_isGood_12 : decode cX16_isGood 12 = .ok (.ireturn, 1) := dk_172 (dk_at dksX16_isGood_0 12 rfl rfl)
abbrev cX16_goes : ByteArray := prog_13_method_4_code
def yX16_goes : MethodName := ⟨RX16, "goes", "()V"⟩
def dkwX16_goes_0 : List UInt8 := [42, 89, 180, 0, 17, 4, 96, 181, 0, 17, 177]
abbrev dktX16_goes_0 : List UInt8 := dkwX16_goes_0 ++ []
theorem dksX16_goes_0 : cX16_goes.data.toList.drop 0 = dktX16_goes_0 := by decide +kernel
theorem dX16_goes_0 : decode cX16_goes 0 = .ok (.aload_n 0, 1) := dk_42 (dk_at dksX16_goes_0 0 rfl rfl)
theorem dX16_goes_1 : decode cX16_goes 1 = .ok (.dup, 1) := dk_89 (dk_at dksX16_goes_0 1 rfl rfl)
theorem dX16_goes_2 : decode cX16_goes 2 = .ok (.getfield 17, 3) := dk_180 0 17 (dk_at dksX16_goes_0 2 rfl rfl)
theorem dX16_goes_5 : decode cX16_goes 5 = .ok (.iconst 1, 1) := dk_4 (dk_at dksX16_goes_0 5 rfl rfl)
theorem dX16_goes_6 : decode cX16_goes 6 = .ok (.iadd, 1) := dk_96 (dk_at dksX16_goes_0 6 rfl rfl)
theorem dX16_goes_7 : decode cX16_goes 7 = .ok (.putfield 17, 3) := dk_181 0 17 (dk_at dksX16_goes_0 7 rfl rfl)
theorem dX16_goes_10 : decode cX16_goes 10 = .ok (.return_, 1) := dk_177 (dk_at dksX16_goes_0 10 rfl rfl)
abbrev cX16_isEnd : ByteArray := prog_13_method_5_code
def yX16_isEnd : MethodName := ⟨RX16, "isEnd", "()Z"⟩
def dkwX16_isEnd_0 : List UInt8 := [42, 180, 0, 17, 42, 180, 0, 13, 161, 0, 7, 4, 167, 0, 4, 3, 172]
abbrev dktX16_isEnd_0 : List UInt8 := dkwX16_isEnd_0 ++ []
theorem dksX16_isEnd_0 : cX16_isEnd.data.toList.drop 0 = dktX16_isEnd_0 := by decide +kernel
theorem dX16_isEnd_0 : decode cX16_isEnd 0 = .ok (.aload_n 0, 1) := dk_42 (dk_at dksX16_isEnd_0 0 rfl rfl)
theorem dX16_isEnd_1 : decode cX16_isEnd 1 = .ok (.getfield 17, 3) := dk_180 0 17 (dk_at dksX16_isEnd_0 1 rfl rfl)
theorem dX16_isEnd_4 : decode cX16_isEnd 4 = .ok (.aload_n 0, 1) := dk_42 (dk_at dksX16_isEnd_0 4 rfl rfl)
theorem dX16_isEnd_5 : decode cX16_isEnd 5 = .ok (.getfield 13, 3) := dk_180 0 13 (dk_at dksX16_isEnd_0 5 rfl rfl)
theorem dX16_isEnd_8 : decode cX16_isEnd 8 = .ok (.if_icmp .lt 7, 3) := dk_161 0 7 (dk_at dksX16_isEnd_0 8 rfl rfl)
theorem dX16_isEnd_11 : decode cX16_isEnd 11 = .ok (.iconst 1, 1) := dk_4 (dk_at dksX16_isEnd_0 11 rfl rfl)
theorem dX16_isEnd_12 : decode cX16_isEnd 12 = .ok (.goto 4, 3) := dk_167 0 4 (dk_at dksX16_isEnd_0 12 rfl rfl)
theorem dX16_isEnd_15 : decode cX16_isEnd 15 = .ok (.iconst 0, 1) := dk_3 (dk_at dksX16_isEnd_0 15 rfl rfl)
theorem dX16_isEnd_16 : decode cX16_isEnd 16 = .ok (.ireturn, 1) := dk_172 (dk_at dksX16_isEnd_0 16 rfl rfl)
abbrev cX16_answer : ByteArray := prog_13_method_8_code
def yX16_answer : MethodName := ⟨RX16, "answer", "(I)I"⟩
def dkwX16_answer_1 : List UInt8 := [172]
abbrev dktX16_answer_1 : List UInt8 := dkwX16_answer_1 ++ []
def dkwX16_answer_0 : List UInt8 := [42, 182, 0, 32, 153, 0, 7, 27, 167, 0, 16, 17, 252, 24, 42, 180, 0, 26, 104, 42, 180, 0, 29, 100]
abbrev dktX16_answer_0 : List UInt8 := dkwX16_answer_0 ++ dktX16_answer_1
theorem dksX16_answer_0 : cX16_answer.data.toList.drop 0 = dktX16_answer_0 := by decide +kernel
theorem dksX16_answer_1 : cX16_answer.data.toList.drop 24 = dktX16_answer_1 := dk_seg dksX16_answer_0 24 rfl rfl
theorem dX16_answer_0 : decode cX16_answer 0 = .ok (.aload_n 0, 1) := dk_42 (dk_at dksX16_answer_0 0 rfl rfl)
theorem dX16_answer_1 : decode cX16_answer 1 = .ok (.invokevirtual 32, 3) := dk_182 0 32 (dk_at dksX16_answer_0 1 rfl rfl)
theorem dX16_answer_4 : decode cX16_answer 4 = .ok (.ifCond .eq 7, 3) := dk_153 0 7 (dk_at dksX16_answer_0 4 rfl rfl)
theorem dX16_answer_7 : decode cX16_answer 7 = .ok (.iload_n 1, 1) := dk_27 (dk_at dksX16_answer_0 7 rfl rfl)
theorem dX16_answer_8 : decode cX16_answer 8 = .ok (.goto 16, 3) := dk_167 0 16 (dk_at dksX16_answer_0 8 rfl rfl)
theorem dX16_answer_11 : decode cX16_answer 11 = .ok (.sipush (-1000), 3) := dk_17 252 24 (dk_at dksX16_answer_0 11 rfl rfl)
theorem dX16_answer_14 : decode cX16_answer 14 = .ok (.aload_n 0, 1) := dk_42 (dk_at dksX16_answer_0 14 rfl rfl)
theorem dX16_answer_15 : decode cX16_answer 15 = .ok (.getfield 26, 3) := dk_180 0 26 (dk_at dksX16_answer_0 15 rfl rfl)
theorem dX16_answer_18 : decode cX16_answer 18 = .ok (.imul, 1) := dk_104 (dk_at dksX16_answer_0 18 rfl rfl)
theorem dX16_answer_19 : decode cX16_answer 19 = .ok (.aload_n 0, 1) := dk_42 (dk_at dksX16_answer_0 19 rfl rfl)
theorem dX16_answer_20 : decode cX16_answer 20 = .ok (.getfield 29, 3) := dk_180 0 29 (dk_at dksX16_answer_0 20 rfl rfl)
theorem dX16_answer_23 : decode cX16_answer 23 = .ok (.isub, 1) := dk_100 (dk_at dksX16_answer_0 23 rfl rfl)
theorem dX16_answer_24 : decode cX16_answer 24 = .ok (.ireturn, 1) := dk_172 (dk_at dksX16_answer_1 0 rfl rfl)
theorem q136 : (Jvm.Cond.initialized "InsuredFlame$Scribe") ∈ lw_all := lw_g (lw_at lw_m1 23 rfl) rfl
theorem q310 : (Jvm.Cond.fieldLinkNest "InsuredFlame$Scribe" (20 : Nat) "InsuredFlame" "tape" "[B" "InsuredFlame") ∈ lw_tbl := lw_at lw_m1 197 rfl
theorem q649 : (Jvm.Cond.instanceMethod ({ cls := "InsuredFlame$Scribe", name := "<init>", desc := "(LInsuredFlame;I)V" } : Jvm.MethodName)) ∈ lw_all := lw_g (lw_at lw_m3 56 rfl) rfl
theorem q650 : (Jvm.Cond.code ({ cls := "InsuredFlame$Scribe", name := "<init>", desc := "(LInsuredFlame;I)V" } : Jvm.MethodName) prog_13_method_1_code (3 : Nat) (Option.none : Option Jvm.ClassFile.FieldType)) ∈ lw_all := lw_g (lw_at lw_m3 57 rfl) rfl
theorem q651 : (Jvm.Cond.methodLink "InsuredFlame$Scribe" (7 : Nat) ({ cls := "java/lang/Object", name := "<init>", desc := "()V" } : Jvm.MethodName)) ∈ lw_all := lw_g (lw_at lw_m3 58 rfl) rfl
theorem q657 : (Jvm.Cond.fieldLink "InsuredFlame$Scribe" (13 : Nat) "InsuredFlame$Scribe" "n" "I") ∈ lw_all := lw_g (lw_at lw_m3 64 rfl) rfl
theorem q658 : (Jvm.Cond.fieldLink "InsuredFlame$Scribe" (17 : Nat) "InsuredFlame$Scribe" "at" "I") ∈ lw_all := lw_g (lw_at lw_m3 65 rfl) rfl
theorem q659 : (Jvm.Cond.fieldLink "InsuredFlame$Scribe" (26 : Nat) "InsuredFlame$Scribe" "fault" "I") ∈ lw_all := lw_g (lw_at lw_m3 66 rfl) rfl
theorem q660 : (Jvm.Cond.fieldLink "InsuredFlame$Scribe" (29 : Nat) "InsuredFlame$Scribe" "place" "I") ∈ lw_all := lw_g (lw_at lw_m3 67 rfl) rfl
theorem q661 : (Jvm.Cond.fieldLink "InsuredFlame$Scribe" (1 : Nat) "InsuredFlame$Scribe" "this$0" "LInsuredFlame;") ∈ lw_all := lw_g (lw_at lw_m3 68 rfl) rfl
theorem q671 : (Jvm.Cond.soleField "InsuredFlame$Scribe" "n") ∈ lw_all := lw_g (lw_at lw_m3 78 rfl) rfl
theorem q673 : (Jvm.Cond.soleField "InsuredFlame$Scribe" "at") ∈ lw_all := lw_g (lw_at lw_m3 80 rfl) rfl
theorem q675 : (Jvm.Cond.soleField "InsuredFlame$Scribe" "fault") ∈ lw_all := lw_g (lw_at lw_m3 82 rfl) rfl
theorem q677 : (Jvm.Cond.soleField "InsuredFlame$Scribe" "place") ∈ lw_all := lw_g (lw_at lw_m3 84 rfl) rfl
theorem q679 : (Jvm.Cond.soleField "InsuredFlame$Scribe" "this$0") ∈ lw_all := lw_g (lw_at lw_m3 86 rfl) rfl
theorem q691 : (Jvm.Cond.declares ({ cls := "InsuredFlame$Scribe", name := "sees", desc := "(II)Z" } : Jvm.MethodName)) ∈ lw_tbl := lw_at lw_m3 98 rfl
theorem q693 : (Jvm.Cond.instanceMethod ({ cls := "InsuredFlame$Scribe", name := "sees", desc := "(II)Z" } : Jvm.MethodName)) ∈ lw_all := lw_g (lw_at lw_m3 100 rfl) rfl
theorem q694 : (Jvm.Cond.code ({ cls := "InsuredFlame$Scribe", name := "sees", desc := "(II)Z" } : Jvm.MethodName) prog_13_method_9_code (3 : Nat) (Option.some Jvm.ClassFile.FieldType.boolean)) ∈ lw_all := lw_g (lw_at lw_m3 101 rfl) rfl
theorem q695 : (Jvm.Cond.methodLink "InsuredFlame$Scribe" (36 : Nat) ({ cls := "InsuredFlame$Scribe", name := "here", desc := "()I" } : Jvm.MethodName)) ∈ lw_all := lw_g (lw_at lw_m3 102 rfl) rfl
theorem q696 : (Jvm.Cond.instanceMethod ({ cls := "InsuredFlame$Scribe", name := "here", desc := "()I" } : Jvm.MethodName)) ∈ lw_all := lw_g (lw_at lw_m3 103 rfl) rfl
theorem q697 : (Jvm.Cond.sameMethod "InsuredFlame$Scribe" "InsuredFlame$Scribe" "here" "()I") ∈ lw_all := lw_g (lw_at lw_m3 104 rfl) rfl
theorem q700 : (Jvm.Cond.code ({ cls := "InsuredFlame$Scribe", name := "here", desc := "()I" } : Jvm.MethodName) prog_13_method_2_code (1 : Nat) (Option.some Jvm.ClassFile.FieldType.int)) ∈ lw_all := lw_g (lw_at lw_m3 107 rfl) rfl
theorem q707 : (Jvm.Cond.declares ({ cls := "InsuredFlame$Scribe", name := "here", desc := "()I" } : Jvm.MethodName)) ∈ lw_tbl := lw_at lw_m3 114 rfl
theorem q713 : (Jvm.Cond.declares ({ cls := "InsuredFlame$Scribe", name := "place", desc := "()I" } : Jvm.MethodName)) ∈ lw_tbl := lw_at lw_m3 120 rfl
theorem q715 : (Jvm.Cond.instanceMethod ({ cls := "InsuredFlame$Scribe", name := "place", desc := "()I" } : Jvm.MethodName)) ∈ lw_all := lw_g (lw_at lw_m3 122 rfl) rfl
theorem q716 : (Jvm.Cond.code ({ cls := "InsuredFlame$Scribe", name := "place", desc := "()I" } : Jvm.MethodName) prog_13_method_3_code (1 : Nat) (Option.some Jvm.ClassFile.FieldType.int)) ∈ lw_all := lw_g (lw_at lw_m3 123 rfl) rfl
theorem q719 : (Jvm.Cond.declares ({ cls := "InsuredFlame$Scribe", name := "bad", desc := "(II)V" } : Jvm.MethodName)) ∈ lw_tbl := lw_at lw_m3 126 rfl
theorem q721 : (Jvm.Cond.instanceMethod ({ cls := "InsuredFlame$Scribe", name := "bad", desc := "(II)V" } : Jvm.MethodName)) ∈ lw_all := lw_g (lw_at lw_m3 128 rfl) rfl
theorem q722 : (Jvm.Cond.code ({ cls := "InsuredFlame$Scribe", name := "bad", desc := "(II)V" } : Jvm.MethodName) prog_13_method_6_code (3 : Nat) (Option.none : Option Jvm.ClassFile.FieldType)) ∈ lw_all := lw_g (lw_at lw_m3 129 rfl) rfl
theorem q725 : (Jvm.Cond.declares ({ cls := "InsuredFlame$Scribe", name := "isGood", desc := "()Z" } : Jvm.MethodName)) ∈ lw_tbl := lw_at lw_m3 132 rfl
theorem q727 : (Jvm.Cond.instanceMethod ({ cls := "InsuredFlame$Scribe", name := "isGood", desc := "()Z" } : Jvm.MethodName)) ∈ lw_all := lw_g (lw_at lw_m3 134 rfl) rfl
theorem q728 : (Jvm.Cond.code ({ cls := "InsuredFlame$Scribe", name := "isGood", desc := "()Z" } : Jvm.MethodName) prog_13_method_7_code (1 : Nat) (Option.some Jvm.ClassFile.FieldType.boolean)) ∈ lw_all := lw_g (lw_at lw_m3 135 rfl) rfl
theorem q735 : (Jvm.Cond.declares ({ cls := "InsuredFlame$Scribe", name := "goes", desc := "()V" } : Jvm.MethodName)) ∈ lw_tbl := lw_at lw_m3 142 rfl
theorem q737 : (Jvm.Cond.instanceMethod ({ cls := "InsuredFlame$Scribe", name := "goes", desc := "()V" } : Jvm.MethodName)) ∈ lw_all := lw_g (lw_at lw_m3 144 rfl) rfl
theorem q738 : (Jvm.Cond.code ({ cls := "InsuredFlame$Scribe", name := "goes", desc := "()V" } : Jvm.MethodName) prog_13_method_4_code (1 : Nat) (Option.none : Option Jvm.ClassFile.FieldType)) ∈ lw_all := lw_g (lw_at lw_m3 145 rfl) rfl
theorem q741 : (Jvm.Cond.declares ({ cls := "InsuredFlame$Scribe", name := "isEnd", desc := "()Z" } : Jvm.MethodName)) ∈ lw_tbl := lw_at lw_m3 148 rfl
theorem q743 : (Jvm.Cond.instanceMethod ({ cls := "InsuredFlame$Scribe", name := "isEnd", desc := "()Z" } : Jvm.MethodName)) ∈ lw_all := lw_g (lw_at lw_m3 150 rfl) rfl
theorem q744 : (Jvm.Cond.code ({ cls := "InsuredFlame$Scribe", name := "isEnd", desc := "()Z" } : Jvm.MethodName) prog_13_method_5_code (1 : Nat) (Option.some Jvm.ClassFile.FieldType.boolean)) ∈ lw_all := lw_g (lw_at lw_m3 151 rfl) rfl
theorem q747 : (Jvm.Cond.declares ({ cls := "InsuredFlame$Scribe", name := "answer", desc := "(I)I" } : Jvm.MethodName)) ∈ lw_tbl := lw_at lw_m3 154 rfl
theorem q749 : (Jvm.Cond.instanceMethod ({ cls := "InsuredFlame$Scribe", name := "answer", desc := "(I)I" } : Jvm.MethodName)) ∈ lw_all := lw_g (lw_at lw_m3 156 rfl) rfl
theorem q750 : (Jvm.Cond.code ({ cls := "InsuredFlame$Scribe", name := "answer", desc := "(I)I" } : Jvm.MethodName) prog_13_method_8_code (2 : Nat) (Option.some Jvm.ClassFile.FieldType.int)) ∈ lw_all := lw_g (lw_at lw_m3 157 rfl) rfl
theorem q751 : (Jvm.Cond.methodLink "InsuredFlame$Scribe" (32 : Nat) ({ cls := "InsuredFlame$Scribe", name := "isGood", desc := "()Z" } : Jvm.MethodName)) ∈ lw_all := lw_g (lw_at lw_m3 158 rfl) rfl
theorem q1738 : (Jvm.Cond.sameMethod "InsuredFlame$Scribe" "InsuredFlame$Scribe" "isGood" "()Z") ∈ lw_all := lw_g (lw_at lw_m7 185 rfl) rfl
/-! InsuredFlame$Surveyor -/
set_option maxRecDepth 100000
def RX17 : String := "InsuredFlame$Surveyor"
def TX17 : u_T := fun k => match k with
  | 0 => ("InsuredFlame$Scribe", "n", "I", true)
  | 1 => ("InsuredFlame$Scribe", "at", "I", false)
  | 2 => ("InsuredFlame$Scribe", "fault", "I", false)
  | 3 => ("InsuredFlame$Scribe", "place", "I", false)
  | 4 => ("InsuredFlame$Scribe", "this$0", "LInsuredFlame;", true)
  | 5 => ("InsuredFlame$Surveyor", "told", "[I", true)
  | 6 => ("InsuredFlame$Surveyor", "rows", "I", false)
  | 7 => ("InsuredFlame$Surveyor", "signs", "I", false)
  | _ => ("InsuredFlame$Surveyor", "this$0", "LInsuredFlame;", true)
def tyX17 : Nat → FieldType := fun k => match k with
  | 0 => .int
  | 1 => .int
  | 2 => .int
  | 3 => .int
  | 4 => .object "InsuredFlame"
  | 5 => .array .int
  | 6 => .int
  | 7 => .int
  | _ => .object "InsuredFlame"
abbrev wsX170 : List Cond := u_ws RX17 TX17 9
-- two fields of one name: no nmX17
theorem tyX17_ok : ∀ k, k < 9 → parseFieldDescriptor (TX17 k).2.2.1 = some (tyX17 k) := by decide +kernel
abbrev cX17_init : ByteArray := prog_16_method_1_code
def yX17_init : MethodName := ⟨RX17, "<init>", "(LInsuredFlame;I)V"⟩
def dkwX17_init_0 : List UInt8 := [42, 43, 181, 0, 3, 42, 43, 28, 183, 0, 9, 42, 16, 96, 188, 10, 181, 0, 15, 177]
abbrev dktX17_init_0 : List UInt8 := dkwX17_init_0 ++ []
theorem dksX17_init_0 : cX17_init.data.toList.drop 0 = dktX17_init_0 := by decide +kernel
theorem dX17_init_0 : decode cX17_init 0 = .ok (.aload_n 0, 1) := dk_42 (dk_at dksX17_init_0 0 rfl rfl)
theorem dX17_init_1 : decode cX17_init 1 = .ok (.aload_n 1, 1) := dk_43 (dk_at dksX17_init_0 1 rfl rfl)
theorem dX17_init_2 : decode cX17_init 2 = .ok (.putfield 3, 3) := dk_181 0 3 (dk_at dksX17_init_0 2 rfl rfl)
theorem dX17_init_5 : decode cX17_init 5 = .ok (.aload_n 0, 1) := dk_42 (dk_at dksX17_init_0 5 rfl rfl)
theorem dX17_init_6 : decode cX17_init 6 = .ok (.aload_n 1, 1) := dk_43 (dk_at dksX17_init_0 6 rfl rfl)
theorem dX17_init_7 : decode cX17_init 7 = .ok (.iload_n 2, 1) := dk_28 (dk_at dksX17_init_0 7 rfl rfl)
theorem dX17_init_8 : decode cX17_init 8 = .ok (.invokespecial 9, 3) := dk_183 0 9 (dk_at dksX17_init_0 8 rfl rfl)
theorem dX17_init_11 : decode cX17_init 11 = .ok (.aload_n 0, 1) := dk_42 (dk_at dksX17_init_0 11 rfl rfl)
theorem dX17_init_12 : decode cX17_init 12 = .ok (.bipush 96, 2) := dk_16 96 (dk_at dksX17_init_0 12 rfl rfl)
theorem dX17_init_14 : decode cX17_init 14 = .ok (.newarray .int, 2) := dk_188_10 (dk_at dksX17_init_0 14 rfl rfl)
theorem dX17_init_16 : decode cX17_init 16 = .ok (.putfield 15, 3) := dk_181 0 15 (dk_at dksX17_init_0 16 rfl rfl)
theorem dX17_init_19 : decode cX17_init 19 = .ok (.return_, 1) := dk_177 (dk_at dksX17_init_0 19 rfl rfl)
abbrev cX17_read : ByteArray := prog_16_method_5_code
def yX17_read : MethodName := ⟨RX17, "read", "()I"⟩
def dkwX17_read_3 : List UInt8 := [132, 4, 1, 167, 255, 227, 42, 27, 182, 0, 69, 172]
abbrev dktX17_read_3 : List UInt8 := dkwX17_read_3 ++ []
def dkwX17_read_2 : List UInt8 := [162, 0, 29, 44, 21, 4, 46, 54, 5, 27, 21, 5, 4, 160, 0, 7, 4, 167, 0, 4, 3, 96, 60]
abbrev dktX17_read_2 : List UInt8 := dkwX17_read_2 ++ dktX17_read_3
def dkwX17_read_1 : List UInt8 := [182, 0, 66, 167, 255, 234, 3, 60, 42, 180, 0, 15, 77, 44, 190, 62, 3, 54, 4, 21, 4, 29]
abbrev dktX17_read_1 : List UInt8 := dkwX17_read_1 ++ dktX17_read_2
def dkwX17_read_0 : List UInt8 := [42, 182, 0, 66, 42, 182, 0, 53, 153, 0, 21, 42, 182, 0, 63, 154, 0, 14, 42, 182, 0, 38, 42]
abbrev dktX17_read_0 : List UInt8 := dkwX17_read_0 ++ dktX17_read_1
theorem dksX17_read_0 : cX17_read.data.toList.drop 0 = dktX17_read_0 := by decide +kernel
theorem dksX17_read_1 : cX17_read.data.toList.drop 23 = dktX17_read_1 := dk_seg dksX17_read_0 23 rfl rfl
theorem dksX17_read_2 : cX17_read.data.toList.drop 45 = dktX17_read_2 := dk_seg dksX17_read_1 22 rfl rfl
theorem dksX17_read_3 : cX17_read.data.toList.drop 68 = dktX17_read_3 := dk_seg dksX17_read_2 23 rfl rfl
theorem dX17_read_0 : decode cX17_read 0 = .ok (.aload_n 0, 1) := dk_42 (dk_at dksX17_read_0 0 rfl rfl)
theorem dX17_read_1 : decode cX17_read 1 = .ok (.invokevirtual 66, 3) := dk_182 0 66 (dk_at dksX17_read_0 1 rfl rfl)
theorem dX17_read_4 : decode cX17_read 4 = .ok (.aload_n 0, 1) := dk_42 (dk_at dksX17_read_0 4 rfl rfl)
theorem dX17_read_5 : decode cX17_read 5 = .ok (.invokevirtual 53, 3) := dk_182 0 53 (dk_at dksX17_read_0 5 rfl rfl)
theorem dX17_read_8 : decode cX17_read 8 = .ok (.ifCond .eq 21, 3) := dk_153 0 21 (dk_at dksX17_read_0 8 rfl rfl)
theorem dX17_read_11 : decode cX17_read 11 = .ok (.aload_n 0, 1) := dk_42 (dk_at dksX17_read_0 11 rfl rfl)
theorem dX17_read_12 : decode cX17_read 12 = .ok (.invokevirtual 63, 3) := dk_182 0 63 (dk_at dksX17_read_0 12 rfl rfl)
theorem dX17_read_15 : decode cX17_read 15 = .ok (.ifCond .ne 14, 3) := dk_154 0 14 (dk_at dksX17_read_0 15 rfl rfl)
theorem dX17_read_18 : decode cX17_read 18 = .ok (.aload_n 0, 1) := dk_42 (dk_at dksX17_read_0 18 rfl rfl)
theorem dX17_read_19 : decode cX17_read 19 = .ok (.invokevirtual 38, 3) := dk_182 0 38 (dk_at dksX17_read_0 19 rfl rfl)
theorem dX17_read_22 : decode cX17_read 22 = .ok (.aload_n 0, 1) := dk_42 (dk_at dksX17_read_0 22 rfl rfl)
theorem dX17_read_23 : decode cX17_read 23 = .ok (.invokevirtual 66, 3) := dk_182 0 66 (dk_at dksX17_read_1 0 rfl rfl)
theorem dX17_read_26 : decode cX17_read 26 = .ok (.goto (-22), 3) := dk_167 255 234 (dk_at dksX17_read_1 3 rfl rfl)
theorem dX17_read_29 : decode cX17_read 29 = .ok (.iconst 0, 1) := dk_3 (dk_at dksX17_read_1 6 rfl rfl)
theorem dX17_read_30 : decode cX17_read 30 = .ok (.istore_n 1, 1) := dk_60 (dk_at dksX17_read_1 7 rfl rfl)
theorem dX17_read_31 : decode cX17_read 31 = .ok (.aload_n 0, 1) := dk_42 (dk_at dksX17_read_1 8 rfl rfl)
theorem dX17_read_32 : decode cX17_read 32 = .ok (.getfield 15, 3) := dk_180 0 15 (dk_at dksX17_read_1 9 rfl rfl)
theorem dX17_read_35 : decode cX17_read 35 = .ok (.astore_n 2, 1) := dk_77 (dk_at dksX17_read_1 12 rfl rfl)
theorem dX17_read_36 : decode cX17_read 36 = .ok (.aload_n 2, 1) := dk_44 (dk_at dksX17_read_1 13 rfl rfl)
theorem dX17_read_37 : decode cX17_read 37 = .ok (.arraylength, 1) := dk_190 (dk_at dksX17_read_1 14 rfl rfl)
theorem dX17_read_38 : decode cX17_read 38 = .ok (.istore_n 3, 1) := dk_62 (dk_at dksX17_read_1 15 rfl rfl)
theorem dX17_read_39 : decode cX17_read 39 = .ok (.iconst 0, 1) := dk_3 (dk_at dksX17_read_1 16 rfl rfl)
theorem dX17_read_40 : decode cX17_read 40 = .ok (.istore 4, 2) := dk_54 4 (dk_at dksX17_read_1 17 rfl rfl)
theorem dX17_read_42 : decode cX17_read 42 = .ok (.iload 4, 2) := dk_21 4 (dk_at dksX17_read_1 19 rfl rfl)
theorem dX17_read_44 : decode cX17_read 44 = .ok (.iload_n 3, 1) := dk_29 (dk_at dksX17_read_1 21 rfl rfl)
theorem dX17_read_45 : decode cX17_read 45 = .ok (.if_icmp .ge 29, 3) := dk_162 0 29 (dk_at dksX17_read_2 0 rfl rfl)
theorem dX17_read_48 : decode cX17_read 48 = .ok (.aload_n 2, 1) := dk_44 (dk_at dksX17_read_2 3 rfl rfl)
theorem dX17_read_49 : decode cX17_read 49 = .ok (.iload 4, 2) := dk_21 4 (dk_at dksX17_read_2 4 rfl rfl)
theorem dX17_read_51 : decode cX17_read 51 = .ok (.iaload, 1) := dk_46 (dk_at dksX17_read_2 6 rfl rfl)
theorem dX17_read_52 : decode cX17_read 52 = .ok (.istore 5, 2) := dk_54 5 (dk_at dksX17_read_2 7 rfl rfl)
theorem dX17_read_54 : decode cX17_read 54 = .ok (.iload_n 1, 1) := dk_27 (dk_at dksX17_read_2 9 rfl rfl)
theorem dX17_read_55 : decode cX17_read 55 = .ok (.iload 5, 2) := dk_21 5 (dk_at dksX17_read_2 10 rfl rfl)
theorem dX17_read_57 : decode cX17_read 57 = .ok (.iconst 1, 1) := dk_4 (dk_at dksX17_read_2 12 rfl rfl)
theorem dX17_read_58 : decode cX17_read 58 = .ok (.if_icmp .ne 7, 3) := dk_160 0 7 (dk_at dksX17_read_2 13 rfl rfl)
theorem dX17_read_61 : decode cX17_read 61 = .ok (.iconst 1, 1) := dk_4 (dk_at dksX17_read_2 16 rfl rfl)
theorem dX17_read_62 : decode cX17_read 62 = .ok (.goto 4, 3) := dk_167 0 4 (dk_at dksX17_read_2 17 rfl rfl)
theorem dX17_read_65 : decode cX17_read 65 = .ok (.iconst 0, 1) := dk_3 (dk_at dksX17_read_2 20 rfl rfl)
theorem dX17_read_66 : decode cX17_read 66 = .ok (.iadd, 1) := dk_96 (dk_at dksX17_read_2 21 rfl rfl)
theorem dX17_read_67 : decode cX17_read 67 = .ok (.istore_n 1, 1) := dk_60 (dk_at dksX17_read_2 22 rfl rfl)
theorem dX17_read_68 : decode cX17_read 68 = .ok (.iinc 4 1, 3) := dk_132 4 1 (dk_at dksX17_read_3 0 rfl rfl)
theorem dX17_read_71 : decode cX17_read 71 = .ok (.goto (-29), 3) := dk_167 255 227 (dk_at dksX17_read_3 3 rfl rfl)
theorem dX17_read_74 : decode cX17_read 74 = .ok (.aload_n 0, 1) := dk_42 (dk_at dksX17_read_3 6 rfl rfl)
theorem dX17_read_75 : decode cX17_read 75 = .ok (.iload_n 1, 1) := dk_27 (dk_at dksX17_read_3 7 rfl rfl)
theorem dX17_read_76 : decode cX17_read 76 = .ok (.invokevirtual 69, 3) := dk_182 0 69 (dk_at dksX17_read_3 8 rfl rfl)
theorem dX17_read_79 : decode cX17_read 79 = .ok (.ireturn, 1) := dk_172 (dk_at dksX17_read_3 11 rfl rfl)
abbrev cX17_row : ByteArray := prog_16_method_4_code
def yX17_row : MethodName := ⟨RX17, "row", "()V"⟩
def dkwX17_row_3 : List UInt8 := [159, 0, 10, 42, 182, 0, 60, 167, 255, 229, 42, 89, 180, 0, 57, 4, 96, 181, 0, 57, 177]
abbrev dktX17_row_3 : List UInt8 := dkwX17_row_3 ++ []
def dkwX17_row_2 : List UInt8 := [42, 182, 0, 60, 42, 182, 0, 53, 153, 0, 26, 42, 182, 0, 63, 154, 0, 19, 42, 182, 0, 19, 16, 47]
abbrev dktX17_row_2 : List UInt8 := dkwX17_row_2 ++ dktX17_row_3
def dkwX17_row_1 : List UInt8 := [155, 0, 12, 42, 7, 42, 182, 0, 31, 182, 0, 45, 42, 3, 181, 0, 49, 42, 182, 0, 53, 153, 0, 7]
abbrev dktX17_row_1 : List UInt8 := dkwX17_row_1 ++ dktX17_row_2
def dkwX17_row_0 : List UInt8 := [42, 180, 0, 57, 16, 8, 160, 0, 30, 42, 16, 50, 16, 57, 182, 0, 34, 154, 0, 10, 42, 182, 0, 42]
abbrev dktX17_row_0 : List UInt8 := dkwX17_row_0 ++ dktX17_row_1
theorem dksX17_row_0 : cX17_row.data.toList.drop 0 = dktX17_row_0 := by decide +kernel
theorem dksX17_row_1 : cX17_row.data.toList.drop 24 = dktX17_row_1 := dk_seg dksX17_row_0 24 rfl rfl
theorem dksX17_row_2 : cX17_row.data.toList.drop 48 = dktX17_row_2 := dk_seg dksX17_row_1 24 rfl rfl
theorem dksX17_row_3 : cX17_row.data.toList.drop 72 = dktX17_row_3 := dk_seg dksX17_row_2 24 rfl rfl
theorem dX17_row_0 : decode cX17_row 0 = .ok (.aload_n 0, 1) := dk_42 (dk_at dksX17_row_0 0 rfl rfl)
theorem dX17_row_1 : decode cX17_row 1 = .ok (.getfield 57, 3) := dk_180 0 57 (dk_at dksX17_row_0 1 rfl rfl)
theorem dX17_row_4 : decode cX17_row 4 = .ok (.bipush 8, 2) := dk_16 8 (dk_at dksX17_row_0 4 rfl rfl)
theorem dX17_row_6 : decode cX17_row 6 = .ok (.if_icmp .ne 30, 3) := dk_160 0 30 (dk_at dksX17_row_0 6 rfl rfl)
theorem dX17_row_9 : decode cX17_row 9 = .ok (.aload_n 0, 1) := dk_42 (dk_at dksX17_row_0 9 rfl rfl)
theorem dX17_row_10 : decode cX17_row 10 = .ok (.bipush 50, 2) := dk_16 50 (dk_at dksX17_row_0 10 rfl rfl)
theorem dX17_row_12 : decode cX17_row 12 = .ok (.bipush 57, 2) := dk_16 57 (dk_at dksX17_row_0 12 rfl rfl)
theorem dX17_row_14 : decode cX17_row 14 = .ok (.invokevirtual 34, 3) := dk_182 0 34 (dk_at dksX17_row_0 14 rfl rfl)
theorem dX17_row_17 : decode cX17_row 17 = .ok (.ifCond .ne 10, 3) := dk_154 0 10 (dk_at dksX17_row_0 17 rfl rfl)
theorem dX17_row_20 : decode cX17_row 20 = .ok (.aload_n 0, 1) := dk_42 (dk_at dksX17_row_0 20 rfl rfl)
theorem dX17_row_21 : decode cX17_row 21 = .ok (.invokevirtual 42, 3) := dk_182 0 42 (dk_at dksX17_row_0 21 rfl rfl)
theorem dX17_row_24 : decode cX17_row 24 = .ok (.ifCond .lt 12, 3) := dk_155 0 12 (dk_at dksX17_row_1 0 rfl rfl)
theorem dX17_row_27 : decode cX17_row 27 = .ok (.aload_n 0, 1) := dk_42 (dk_at dksX17_row_1 3 rfl rfl)
theorem dX17_row_28 : decode cX17_row 28 = .ok (.iconst 4, 1) := dk_7 (dk_at dksX17_row_1 4 rfl rfl)
theorem dX17_row_29 : decode cX17_row 29 = .ok (.aload_n 0, 1) := dk_42 (dk_at dksX17_row_1 5 rfl rfl)
theorem dX17_row_30 : decode cX17_row 30 = .ok (.invokevirtual 31, 3) := dk_182 0 31 (dk_at dksX17_row_1 6 rfl rfl)
theorem dX17_row_33 : decode cX17_row 33 = .ok (.invokevirtual 45, 3) := dk_182 0 45 (dk_at dksX17_row_1 9 rfl rfl)
theorem dX17_row_36 : decode cX17_row 36 = .ok (.aload_n 0, 1) := dk_42 (dk_at dksX17_row_1 12 rfl rfl)
theorem dX17_row_37 : decode cX17_row 37 = .ok (.iconst 0, 1) := dk_3 (dk_at dksX17_row_1 13 rfl rfl)
theorem dX17_row_38 : decode cX17_row 38 = .ok (.putfield 49, 3) := dk_181 0 49 (dk_at dksX17_row_1 14 rfl rfl)
theorem dX17_row_41 : decode cX17_row 41 = .ok (.aload_n 0, 1) := dk_42 (dk_at dksX17_row_1 17 rfl rfl)
theorem dX17_row_42 : decode cX17_row 42 = .ok (.invokevirtual 53, 3) := dk_182 0 53 (dk_at dksX17_row_1 18 rfl rfl)
theorem dX17_row_45 : decode cX17_row 45 = .ok (.ifCond .eq 7, 3) := dk_153 0 7 (dk_at dksX17_row_1 21 rfl rfl)
theorem dX17_row_48 : decode cX17_row 48 = .ok (.aload_n 0, 1) := dk_42 (dk_at dksX17_row_2 0 rfl rfl)
theorem dX17_row_49 : decode cX17_row 49 = .ok (.invokevirtual 60, 3) := dk_182 0 60 (dk_at dksX17_row_2 1 rfl rfl)
theorem dX17_row_52 : decode cX17_row 52 = .ok (.aload_n 0, 1) := dk_42 (dk_at dksX17_row_2 4 rfl rfl)
theorem dX17_row_53 : decode cX17_row 53 = .ok (.invokevirtual 53, 3) := dk_182 0 53 (dk_at dksX17_row_2 5 rfl rfl)
theorem dX17_row_56 : decode cX17_row 56 = .ok (.ifCond .eq 26, 3) := dk_153 0 26 (dk_at dksX17_row_2 8 rfl rfl)
theorem dX17_row_59 : decode cX17_row 59 = .ok (.aload_n 0, 1) := dk_42 (dk_at dksX17_row_2 11 rfl rfl)
theorem dX17_row_60 : decode cX17_row 60 = .ok (.invokevirtual 63, 3) := dk_182 0 63 (dk_at dksX17_row_2 12 rfl rfl)
theorem dX17_row_63 : decode cX17_row 63 = .ok (.ifCond .ne 19, 3) := dk_154 0 19 (dk_at dksX17_row_2 15 rfl rfl)
theorem dX17_row_66 : decode cX17_row 66 = .ok (.aload_n 0, 1) := dk_42 (dk_at dksX17_row_2 18 rfl rfl)
theorem dX17_row_67 : decode cX17_row 67 = .ok (.invokevirtual 19, 3) := dk_182 0 19 (dk_at dksX17_row_2 19 rfl rfl)
theorem dX17_row_70 : decode cX17_row 70 = .ok (.bipush 47, 2) := dk_16 47 (dk_at dksX17_row_2 22 rfl rfl)
theorem dX17_row_72 : decode cX17_row 72 = .ok (.if_icmp .eq 10, 3) := dk_159 0 10 (dk_at dksX17_row_3 0 rfl rfl)
theorem dX17_row_75 : decode cX17_row 75 = .ok (.aload_n 0, 1) := dk_42 (dk_at dksX17_row_3 3 rfl rfl)
theorem dX17_row_76 : decode cX17_row 76 = .ok (.invokevirtual 60, 3) := dk_182 0 60 (dk_at dksX17_row_3 4 rfl rfl)
theorem dX17_row_79 : decode cX17_row 79 = .ok (.goto (-27), 3) := dk_167 255 229 (dk_at dksX17_row_3 7 rfl rfl)
theorem dX17_row_82 : decode cX17_row 82 = .ok (.aload_n 0, 1) := dk_42 (dk_at dksX17_row_3 10 rfl rfl)
theorem dX17_row_83 : decode cX17_row 83 = .ok (.dup, 1) := dk_89 (dk_at dksX17_row_3 11 rfl rfl)
theorem dX17_row_84 : decode cX17_row 84 = .ok (.getfield 57, 3) := dk_180 0 57 (dk_at dksX17_row_3 12 rfl rfl)
theorem dX17_row_87 : decode cX17_row 87 = .ok (.iconst 1, 1) := dk_4 (dk_at dksX17_row_3 15 rfl rfl)
theorem dX17_row_88 : decode cX17_row 88 = .ok (.iadd, 1) := dk_96 (dk_at dksX17_row_3 16 rfl rfl)
theorem dX17_row_89 : decode cX17_row 89 = .ok (.putfield 57, 3) := dk_181 0 57 (dk_at dksX17_row_3 17 rfl rfl)
theorem dX17_row_92 : decode cX17_row 92 = .ok (.return_, 1) := dk_177 (dk_at dksX17_row_3 20 rfl rfl)
abbrev cX17_kind : ByteArray := prog_16_method_2_code
def yX17_kind : MethodName := ⟨RX17, "kind", "()I"⟩
def dkwX17_kind_0 : List UInt8 := [42, 182, 0, 19, 154, 0, 7, 2, 167, 0, 12, 18, 23, 42, 182, 0, 19, 182, 0, 25, 172]
abbrev dktX17_kind_0 : List UInt8 := dkwX17_kind_0 ++ []
theorem dksX17_kind_0 : cX17_kind.data.toList.drop 0 = dktX17_kind_0 := by decide +kernel
theorem dX17_kind_0 : decode cX17_kind 0 = .ok (.aload_n 0, 1) := dk_42 (dk_at dksX17_kind_0 0 rfl rfl)
theorem dX17_kind_1 : decode cX17_kind 1 = .ok (.invokevirtual 19, 3) := dk_182 0 19 (dk_at dksX17_kind_0 1 rfl rfl)
theorem dX17_kind_4 : decode cX17_kind 4 = .ok (.ifCond .ne 7, 3) := dk_154 0 7 (dk_at dksX17_kind_0 4 rfl rfl)
theorem dX17_kind_7 : decode cX17_kind 7 = .ok (.iconst (-1), 1) := dk_2 (dk_at dksX17_kind_0 7 rfl rfl)
theorem dX17_kind_8 : decode cX17_kind 8 = .ok (.goto 12, 3) := dk_167 0 12 (dk_at dksX17_kind_0 8 rfl rfl)
theorem dX17_kind_11 : decode cX17_kind 11 = .ok (.ldc 23, 2) := dk_18 23 (dk_at dksX17_kind_0 11 rfl rfl)
theorem dX17_kind_13 : decode cX17_kind 13 = .ok (.aload_n 0, 1) := dk_42 (dk_at dksX17_kind_0 13 rfl rfl)
theorem dX17_kind_14 : decode cX17_kind 14 = .ok (.invokevirtual 19, 3) := dk_182 0 19 (dk_at dksX17_kind_0 14 rfl rfl)
theorem dX17_kind_17 : decode cX17_kind 17 = .ok (.invokevirtual 25, 3) := dk_182 0 25 (dk_at dksX17_kind_0 17 rfl rfl)
theorem dX17_kind_20 : decode cX17_kind 20 = .ok (.ireturn, 1) := dk_172 (dk_at dksX17_kind_0 20 rfl rfl)
abbrev cX17_sign : ByteArray := prog_16_method_3_code
def yX17_sign : MethodName := ⟨RX17, "sign", "()V"⟩
def dkwX17_sign_5 : List UInt8 := [180, 0, 49, 4, 96, 181, 0, 49, 132, 4, 1, 167, 255, 212, 177]
abbrev dktX17_sign_5 : List UInt8 := dkwX17_sign_5 ++ []
def dkwX17_sign_4 : List UInt8 := [153, 0, 37, 42, 180, 0, 15, 16, 12, 42, 180, 0, 57, 104, 42, 180, 0, 49, 96, 29, 79, 42, 89]
abbrev dktX17_sign_4 : List UInt8 := dkwX17_sign_4 ++ dktX17_sign_5
def dkwX17_sign_3 : List UInt8 := [16, 6, 27, 182, 0, 45, 42, 182, 0, 38, 3, 54, 4, 21, 4, 28, 162, 0, 44, 42, 182, 0, 53]
abbrev dktX17_sign_3 : List UInt8 := dkwX17_sign_3 ++ dktX17_sign_4
def dkwX17_sign_2 : List UInt8 := [4, 42, 182, 0, 31, 182, 0, 45, 167, 0, 21, 42, 180, 0, 49, 28, 96, 16, 12, 164, 0, 10, 42]
abbrev dktX17_sign_2 : List UInt8 := dkwX17_sign_2 ++ dktX17_sign_3
def dkwX17_sign_1 : List UInt8 := [167, 0, 4, 4, 61, 28, 4, 164, 0, 7, 42, 182, 0, 38, 42, 182, 0, 42, 62, 29, 156, 0, 15, 42]
abbrev dktX17_sign_1 : List UInt8 := dkwX17_sign_1 ++ dktX17_sign_2
def dkwX17_sign_0 : List UInt8 := [42, 182, 0, 31, 60, 42, 16, 50, 16, 57, 182, 0, 34, 153, 0, 13, 42, 182, 0, 19, 16, 48, 100]
abbrev dktX17_sign_0 : List UInt8 := dkwX17_sign_0 ++ dktX17_sign_1
theorem dksX17_sign_0 : cX17_sign.data.toList.drop 0 = dktX17_sign_0 := by decide +kernel
theorem dksX17_sign_1 : cX17_sign.data.toList.drop 23 = dktX17_sign_1 := dk_seg dksX17_sign_0 23 rfl rfl
theorem dksX17_sign_2 : cX17_sign.data.toList.drop 47 = dktX17_sign_2 := dk_seg dksX17_sign_1 24 rfl rfl
theorem dksX17_sign_3 : cX17_sign.data.toList.drop 70 = dktX17_sign_3 := dk_seg dksX17_sign_2 23 rfl rfl
theorem dksX17_sign_4 : cX17_sign.data.toList.drop 93 = dktX17_sign_4 := dk_seg dksX17_sign_3 23 rfl rfl
theorem dksX17_sign_5 : cX17_sign.data.toList.drop 116 = dktX17_sign_5 := dk_seg dksX17_sign_4 23 rfl rfl
theorem dX17_sign_0 : decode cX17_sign 0 = .ok (.aload_n 0, 1) := dk_42 (dk_at dksX17_sign_0 0 rfl rfl)
theorem dX17_sign_1 : decode cX17_sign 1 = .ok (.invokevirtual 31, 3) := dk_182 0 31 (dk_at dksX17_sign_0 1 rfl rfl)
theorem dX17_sign_4 : decode cX17_sign 4 = .ok (.istore_n 1, 1) := dk_60 (dk_at dksX17_sign_0 4 rfl rfl)
theorem dX17_sign_5 : decode cX17_sign 5 = .ok (.aload_n 0, 1) := dk_42 (dk_at dksX17_sign_0 5 rfl rfl)
theorem dX17_sign_6 : decode cX17_sign 6 = .ok (.bipush 50, 2) := dk_16 50 (dk_at dksX17_sign_0 6 rfl rfl)
theorem dX17_sign_8 : decode cX17_sign 8 = .ok (.bipush 57, 2) := dk_16 57 (dk_at dksX17_sign_0 8 rfl rfl)
theorem dX17_sign_10 : decode cX17_sign 10 = .ok (.invokevirtual 34, 3) := dk_182 0 34 (dk_at dksX17_sign_0 10 rfl rfl)
theorem dX17_sign_13 : decode cX17_sign 13 = .ok (.ifCond .eq 13, 3) := dk_153 0 13 (dk_at dksX17_sign_0 13 rfl rfl)
theorem dX17_sign_16 : decode cX17_sign 16 = .ok (.aload_n 0, 1) := dk_42 (dk_at dksX17_sign_0 16 rfl rfl)
theorem dX17_sign_17 : decode cX17_sign 17 = .ok (.invokevirtual 19, 3) := dk_182 0 19 (dk_at dksX17_sign_0 17 rfl rfl)
theorem dX17_sign_20 : decode cX17_sign 20 = .ok (.bipush 48, 2) := dk_16 48 (dk_at dksX17_sign_0 20 rfl rfl)
theorem dX17_sign_22 : decode cX17_sign 22 = .ok (.isub, 1) := dk_100 (dk_at dksX17_sign_0 22 rfl rfl)
theorem dX17_sign_23 : decode cX17_sign 23 = .ok (.goto 4, 3) := dk_167 0 4 (dk_at dksX17_sign_1 0 rfl rfl)
theorem dX17_sign_26 : decode cX17_sign 26 = .ok (.iconst 1, 1) := dk_4 (dk_at dksX17_sign_1 3 rfl rfl)
theorem dX17_sign_27 : decode cX17_sign 27 = .ok (.istore_n 2, 1) := dk_61 (dk_at dksX17_sign_1 4 rfl rfl)
theorem dX17_sign_28 : decode cX17_sign 28 = .ok (.iload_n 2, 1) := dk_28 (dk_at dksX17_sign_1 5 rfl rfl)
theorem dX17_sign_29 : decode cX17_sign 29 = .ok (.iconst 1, 1) := dk_4 (dk_at dksX17_sign_1 6 rfl rfl)
theorem dX17_sign_30 : decode cX17_sign 30 = .ok (.if_icmp .le 7, 3) := dk_164 0 7 (dk_at dksX17_sign_1 7 rfl rfl)
theorem dX17_sign_33 : decode cX17_sign 33 = .ok (.aload_n 0, 1) := dk_42 (dk_at dksX17_sign_1 10 rfl rfl)
theorem dX17_sign_34 : decode cX17_sign 34 = .ok (.invokevirtual 38, 3) := dk_182 0 38 (dk_at dksX17_sign_1 11 rfl rfl)
theorem dX17_sign_37 : decode cX17_sign 37 = .ok (.aload_n 0, 1) := dk_42 (dk_at dksX17_sign_1 14 rfl rfl)
theorem dX17_sign_38 : decode cX17_sign 38 = .ok (.invokevirtual 42, 3) := dk_182 0 42 (dk_at dksX17_sign_1 15 rfl rfl)
theorem dX17_sign_41 : decode cX17_sign 41 = .ok (.istore_n 3, 1) := dk_62 (dk_at dksX17_sign_1 18 rfl rfl)
theorem dX17_sign_42 : decode cX17_sign 42 = .ok (.iload_n 3, 1) := dk_29 (dk_at dksX17_sign_1 19 rfl rfl)
theorem dX17_sign_43 : decode cX17_sign 43 = .ok (.ifCond .ge 15, 3) := dk_156 0 15 (dk_at dksX17_sign_1 20 rfl rfl)
theorem dX17_sign_46 : decode cX17_sign 46 = .ok (.aload_n 0, 1) := dk_42 (dk_at dksX17_sign_1 23 rfl rfl)
theorem dX17_sign_47 : decode cX17_sign 47 = .ok (.iconst 1, 1) := dk_4 (dk_at dksX17_sign_2 0 rfl rfl)
theorem dX17_sign_48 : decode cX17_sign 48 = .ok (.aload_n 0, 1) := dk_42 (dk_at dksX17_sign_2 1 rfl rfl)
theorem dX17_sign_49 : decode cX17_sign 49 = .ok (.invokevirtual 31, 3) := dk_182 0 31 (dk_at dksX17_sign_2 2 rfl rfl)
theorem dX17_sign_52 : decode cX17_sign 52 = .ok (.invokevirtual 45, 3) := dk_182 0 45 (dk_at dksX17_sign_2 5 rfl rfl)
theorem dX17_sign_55 : decode cX17_sign 55 = .ok (.goto 21, 3) := dk_167 0 21 (dk_at dksX17_sign_2 8 rfl rfl)
theorem dX17_sign_58 : decode cX17_sign 58 = .ok (.aload_n 0, 1) := dk_42 (dk_at dksX17_sign_2 11 rfl rfl)
theorem dX17_sign_59 : decode cX17_sign 59 = .ok (.getfield 49, 3) := dk_180 0 49 (dk_at dksX17_sign_2 12 rfl rfl)
theorem dX17_sign_62 : decode cX17_sign 62 = .ok (.iload_n 2, 1) := dk_28 (dk_at dksX17_sign_2 15 rfl rfl)
theorem dX17_sign_63 : decode cX17_sign 63 = .ok (.iadd, 1) := dk_96 (dk_at dksX17_sign_2 16 rfl rfl)
theorem dX17_sign_64 : decode cX17_sign 64 = .ok (.bipush 12, 2) := dk_16 12 (dk_at dksX17_sign_2 17 rfl rfl)
theorem dX17_sign_66 : decode cX17_sign 66 = .ok (.if_icmp .le 10, 3) := dk_164 0 10 (dk_at dksX17_sign_2 19 rfl rfl)
theorem dX17_sign_69 : decode cX17_sign 69 = .ok (.aload_n 0, 1) := dk_42 (dk_at dksX17_sign_2 22 rfl rfl)
theorem dX17_sign_70 : decode cX17_sign 70 = .ok (.bipush 6, 2) := dk_16 6 (dk_at dksX17_sign_3 0 rfl rfl)
theorem dX17_sign_72 : decode cX17_sign 72 = .ok (.iload_n 1, 1) := dk_27 (dk_at dksX17_sign_3 2 rfl rfl)
theorem dX17_sign_73 : decode cX17_sign 73 = .ok (.invokevirtual 45, 3) := dk_182 0 45 (dk_at dksX17_sign_3 3 rfl rfl)
theorem dX17_sign_76 : decode cX17_sign 76 = .ok (.aload_n 0, 1) := dk_42 (dk_at dksX17_sign_3 6 rfl rfl)
theorem dX17_sign_77 : decode cX17_sign 77 = .ok (.invokevirtual 38, 3) := dk_182 0 38 (dk_at dksX17_sign_3 7 rfl rfl)
theorem dX17_sign_80 : decode cX17_sign 80 = .ok (.iconst 0, 1) := dk_3 (dk_at dksX17_sign_3 10 rfl rfl)
theorem dX17_sign_81 : decode cX17_sign 81 = .ok (.istore 4, 2) := dk_54 4 (dk_at dksX17_sign_3 11 rfl rfl)
theorem dX17_sign_83 : decode cX17_sign 83 = .ok (.iload 4, 2) := dk_21 4 (dk_at dksX17_sign_3 13 rfl rfl)
theorem dX17_sign_85 : decode cX17_sign 85 = .ok (.iload_n 2, 1) := dk_28 (dk_at dksX17_sign_3 15 rfl rfl)
theorem dX17_sign_86 : decode cX17_sign 86 = .ok (.if_icmp .ge 44, 3) := dk_162 0 44 (dk_at dksX17_sign_3 16 rfl rfl)
theorem dX17_sign_89 : decode cX17_sign 89 = .ok (.aload_n 0, 1) := dk_42 (dk_at dksX17_sign_3 19 rfl rfl)
theorem dX17_sign_90 : decode cX17_sign 90 = .ok (.invokevirtual 53, 3) := dk_182 0 53 (dk_at dksX17_sign_3 20 rfl rfl)
theorem dX17_sign_93 : decode cX17_sign 93 = .ok (.ifCond .eq 37, 3) := dk_153 0 37 (dk_at dksX17_sign_4 0 rfl rfl)
theorem dX17_sign_96 : decode cX17_sign 96 = .ok (.aload_n 0, 1) := dk_42 (dk_at dksX17_sign_4 3 rfl rfl)
theorem dX17_sign_97 : decode cX17_sign 97 = .ok (.getfield 15, 3) := dk_180 0 15 (dk_at dksX17_sign_4 4 rfl rfl)
theorem dX17_sign_100 : decode cX17_sign 100 = .ok (.bipush 12, 2) := dk_16 12 (dk_at dksX17_sign_4 7 rfl rfl)
theorem dX17_sign_102 : decode cX17_sign 102 = .ok (.aload_n 0, 1) := dk_42 (dk_at dksX17_sign_4 9 rfl rfl)
theorem dX17_sign_103 : decode cX17_sign 103 = .ok (.getfield 57, 3) := dk_180 0 57 (dk_at dksX17_sign_4 10 rfl rfl)
theorem dX17_sign_106 : decode cX17_sign 106 = .ok (.imul, 1) := dk_104 (dk_at dksX17_sign_4 13 rfl rfl)
theorem dX17_sign_107 : decode cX17_sign 107 = .ok (.aload_n 0, 1) := dk_42 (dk_at dksX17_sign_4 14 rfl rfl)
theorem dX17_sign_108 : decode cX17_sign 108 = .ok (.getfield 49, 3) := dk_180 0 49 (dk_at dksX17_sign_4 15 rfl rfl)
theorem dX17_sign_111 : decode cX17_sign 111 = .ok (.iadd, 1) := dk_96 (dk_at dksX17_sign_4 18 rfl rfl)
theorem dX17_sign_112 : decode cX17_sign 112 = .ok (.iload_n 3, 1) := dk_29 (dk_at dksX17_sign_4 19 rfl rfl)
theorem dX17_sign_113 : decode cX17_sign 113 = .ok (.iastore, 1) := dk_79 (dk_at dksX17_sign_4 20 rfl rfl)
theorem dX17_sign_114 : decode cX17_sign 114 = .ok (.aload_n 0, 1) := dk_42 (dk_at dksX17_sign_4 21 rfl rfl)
theorem dX17_sign_115 : decode cX17_sign 115 = .ok (.dup, 1) := dk_89 (dk_at dksX17_sign_4 22 rfl rfl)
theorem dX17_sign_116 : decode cX17_sign 116 = .ok (.getfield 49, 3) := dk_180 0 49 (dk_at dksX17_sign_5 0 rfl rfl)
theorem dX17_sign_119 : decode cX17_sign 119 = .ok (.iconst 1, 1) := dk_4 (dk_at dksX17_sign_5 3 rfl rfl)
theorem dX17_sign_120 : decode cX17_sign 120 = .ok (.iadd, 1) := dk_96 (dk_at dksX17_sign_5 4 rfl rfl)
theorem dX17_sign_121 : decode cX17_sign 121 = .ok (.putfield 49, 3) := dk_181 0 49 (dk_at dksX17_sign_5 5 rfl rfl)
theorem dX17_sign_124 : decode cX17_sign 124 = .ok (.iinc 4 1, 3) := dk_132 4 1 (dk_at dksX17_sign_5 8 rfl rfl)
theorem dX17_sign_127 : decode cX17_sign 127 = .ok (.goto (-44), 3) := dk_167 255 212 (dk_at dksX17_sign_5 11 rfl rfl)
theorem dX17_sign_130 : decode cX17_sign 130 = .ok (.return_, 1) := dk_177 (dk_at dksX17_sign_5 14 rfl rfl)
theorem q137 : (Jvm.Cond.initialized "InsuredFlame$Surveyor") ∈ lw_all := lw_g (lw_at lw_m1 24 rfl) rfl
theorem q644 : (Jvm.Cond.instantiable "InsuredFlame$Surveyor" (9 : Nat)) ∈ lw_all := lw_g (lw_at lw_m3 51 rfl) rfl
theorem q646 : (Jvm.Cond.instanceMethod ({ cls := "InsuredFlame$Surveyor", name := "<init>", desc := "(LInsuredFlame;I)V" } : Jvm.MethodName)) ∈ lw_all := lw_g (lw_at lw_m3 53 rfl) rfl
theorem q647 : (Jvm.Cond.code ({ cls := "InsuredFlame$Surveyor", name := "<init>", desc := "(LInsuredFlame;I)V" } : Jvm.MethodName) prog_16_method_1_code (3 : Nat) (Option.none : Option Jvm.ClassFile.FieldType)) ∈ lw_all := lw_g (lw_at lw_m3 54 rfl) rfl
theorem q648 : (Jvm.Cond.methodLink "InsuredFlame$Surveyor" (9 : Nat) ({ cls := "InsuredFlame$Scribe", name := "<init>", desc := "(LInsuredFlame;I)V" } : Jvm.MethodName)) ∈ lw_all := lw_g (lw_at lw_m3 55 rfl) rfl
theorem q652 : (Jvm.Cond.fieldLink "InsuredFlame$Surveyor" (15 : Nat) "InsuredFlame$Surveyor" "told" "[I") ∈ lw_all := lw_g (lw_at lw_m3 59 rfl) rfl
theorem q654 : (Jvm.Cond.fieldLink "InsuredFlame$Surveyor" (57 : Nat) "InsuredFlame$Surveyor" "rows" "I") ∈ lw_all := lw_g (lw_at lw_m3 61 rfl) rfl
theorem q655 : (Jvm.Cond.fieldLink "InsuredFlame$Surveyor" (49 : Nat) "InsuredFlame$Surveyor" "signs" "I") ∈ lw_all := lw_g (lw_at lw_m3 62 rfl) rfl
theorem q656 : (Jvm.Cond.fieldLink "InsuredFlame$Surveyor" (3 : Nat) "InsuredFlame$Surveyor" "this$0" "LInsuredFlame;") ∈ lw_all := lw_g (lw_at lw_m3 63 rfl) rfl
theorem q662 : (Jvm.Cond.laysFinal "InsuredFlame$Surveyor" "InsuredFlame$Surveyor" "told" "[I") ∈ lw_all := lw_g (lw_at lw_m3 69 rfl) rfl
theorem q663 : (Jvm.Cond.soleField "InsuredFlame$Surveyor" "told") ∈ lw_all := lw_g (lw_at lw_m3 70 rfl) rfl
theorem q664 : (Jvm.Cond.lays "InsuredFlame$Surveyor" "InsuredFlame$Surveyor" "rows" "I") ∈ lw_all := lw_g (lw_at lw_m3 71 rfl) rfl
theorem q665 : (Jvm.Cond.soleField "InsuredFlame$Surveyor" "rows") ∈ lw_all := lw_g (lw_at lw_m3 72 rfl) rfl
theorem q666 : (Jvm.Cond.lays "InsuredFlame$Surveyor" "InsuredFlame$Surveyor" "signs" "I") ∈ lw_all := lw_g (lw_at lw_m3 73 rfl) rfl
theorem q667 : (Jvm.Cond.soleField "InsuredFlame$Surveyor" "signs") ∈ lw_all := lw_g (lw_at lw_m3 74 rfl) rfl
theorem q668 : (Jvm.Cond.laysFinal "InsuredFlame$Surveyor" "InsuredFlame$Surveyor" "this$0" "LInsuredFlame;") ∈ lw_all := lw_g (lw_at lw_m3 75 rfl) rfl
theorem q669 : (Jvm.Cond.soleField "InsuredFlame$Surveyor" "this$0") ∈ lw_all := lw_g (lw_at lw_m3 76 rfl) rfl
theorem q670 : (Jvm.Cond.laysFinal "InsuredFlame$Surveyor" "InsuredFlame$Scribe" "n" "I") ∈ lw_all := lw_g (lw_at lw_m3 77 rfl) rfl
theorem q672 : (Jvm.Cond.lays "InsuredFlame$Surveyor" "InsuredFlame$Scribe" "at" "I") ∈ lw_all := lw_g (lw_at lw_m3 79 rfl) rfl
theorem q674 : (Jvm.Cond.lays "InsuredFlame$Surveyor" "InsuredFlame$Scribe" "fault" "I") ∈ lw_all := lw_g (lw_at lw_m3 81 rfl) rfl
theorem q676 : (Jvm.Cond.lays "InsuredFlame$Surveyor" "InsuredFlame$Scribe" "place" "I") ∈ lw_all := lw_g (lw_at lw_m3 83 rfl) rfl
theorem q678 : (Jvm.Cond.laysFinal "InsuredFlame$Surveyor" "InsuredFlame$Scribe" "this$0" "LInsuredFlame;") ∈ lw_all := lw_g (lw_at lw_m3 85 rfl) rfl
theorem q680 : (Jvm.Cond.superclass "InsuredFlame$Surveyor" "InsuredFlame$Scribe") ∈ lw_all := lw_g (lw_at lw_m3 87 rfl) rfl
theorem q682 : (Jvm.Cond.instanceMethod ({ cls := "InsuredFlame$Surveyor", name := "read", desc := "()I" } : Jvm.MethodName)) ∈ lw_all := lw_g (lw_at lw_m3 89 rfl) rfl
theorem q683 : (Jvm.Cond.selects "InsuredFlame$Surveyor" ({ cls := "InsuredFlame$Surveyor", name := "read", desc := "()I" } : Jvm.MethodName) ({ cls := "InsuredFlame$Surveyor", name := "read", desc := "()I" } : Jvm.MethodName)) ∈ lw_all := lw_g (lw_at lw_m3 90 rfl) rfl
theorem q684 : (Jvm.Cond.code ({ cls := "InsuredFlame$Surveyor", name := "read", desc := "()I" } : Jvm.MethodName) prog_16_method_5_code (6 : Nat) (Option.some Jvm.ClassFile.FieldType.int)) ∈ lw_all := lw_g (lw_at lw_m3 91 rfl) rfl
theorem q685 : (Jvm.Cond.methodLink "InsuredFlame$Surveyor" (66 : Nat) ({ cls := "InsuredFlame$Surveyor", name := "row", desc := "()V" } : Jvm.MethodName)) ∈ lw_all := lw_g (lw_at lw_m3 92 rfl) rfl
theorem q686 : (Jvm.Cond.privateMethod ({ cls := "InsuredFlame$Surveyor", name := "row", desc := "()V" } : Jvm.MethodName)) ∈ lw_tbl := lw_at lw_m3 93 rfl
theorem q687 : (Jvm.Cond.instanceMethod ({ cls := "InsuredFlame$Surveyor", name := "row", desc := "()V" } : Jvm.MethodName)) ∈ lw_all := lw_g (lw_at lw_m3 94 rfl) rfl
theorem q688 : (Jvm.Cond.code ({ cls := "InsuredFlame$Surveyor", name := "row", desc := "()V" } : Jvm.MethodName) prog_16_method_4_code (1 : Nat) (Option.none : Option Jvm.ClassFile.FieldType)) ∈ lw_all := lw_g (lw_at lw_m3 95 rfl) rfl
theorem q689 : (Jvm.Cond.methodLink "InsuredFlame$Surveyor" (34 : Nat) ({ cls := "InsuredFlame$Surveyor", name := "sees", desc := "(II)Z" } : Jvm.MethodName)) ∈ lw_all := lw_g (lw_at lw_m3 96 rfl) rfl
theorem q690 : (Jvm.Cond.sameMethod "InsuredFlame$Surveyor" "InsuredFlame$Scribe" "sees" "(II)Z") ∈ lw_all := lw_g (lw_at lw_m3 97 rfl) rfl
theorem q692 : (Jvm.Cond.selects "InsuredFlame$Surveyor" ({ cls := "InsuredFlame$Surveyor", name := "sees", desc := "(II)Z" } : Jvm.MethodName) ({ cls := "InsuredFlame$Scribe", name := "sees", desc := "(II)Z" } : Jvm.MethodName)) ∈ lw_all := lw_g (lw_at lw_m3 99 rfl) rfl
theorem q699 : (Jvm.Cond.selects "InsuredFlame$Surveyor" ({ cls := "InsuredFlame$Scribe", name := "here", desc := "()I" } : Jvm.MethodName) ({ cls := "InsuredFlame$Scribe", name := "here", desc := "()I" } : Jvm.MethodName)) ∈ lw_all := lw_g (lw_at lw_m3 106 rfl) rfl
theorem q701 : (Jvm.Cond.methodLink "InsuredFlame$Surveyor" (42 : Nat) ({ cls := "InsuredFlame$Surveyor", name := "kind", desc := "()I" } : Jvm.MethodName)) ∈ lw_all := lw_g (lw_at lw_m3 108 rfl) rfl
theorem q702 : (Jvm.Cond.privateMethod ({ cls := "InsuredFlame$Surveyor", name := "kind", desc := "()I" } : Jvm.MethodName)) ∈ lw_tbl := lw_at lw_m3 109 rfl
theorem q703 : (Jvm.Cond.instanceMethod ({ cls := "InsuredFlame$Surveyor", name := "kind", desc := "()I" } : Jvm.MethodName)) ∈ lw_all := lw_g (lw_at lw_m3 110 rfl) rfl
theorem q704 : (Jvm.Cond.code ({ cls := "InsuredFlame$Surveyor", name := "kind", desc := "()I" } : Jvm.MethodName) prog_16_method_2_code (1 : Nat) (Option.some Jvm.ClassFile.FieldType.int)) ∈ lw_all := lw_g (lw_at lw_m3 111 rfl) rfl
theorem q705 : (Jvm.Cond.methodLink "InsuredFlame$Surveyor" (19 : Nat) ({ cls := "InsuredFlame$Surveyor", name := "here", desc := "()I" } : Jvm.MethodName)) ∈ lw_all := lw_g (lw_at lw_m3 112 rfl) rfl
theorem q706 : (Jvm.Cond.sameMethod "InsuredFlame$Surveyor" "InsuredFlame$Scribe" "here" "()I") ∈ lw_all := lw_g (lw_at lw_m3 113 rfl) rfl
theorem q708 : (Jvm.Cond.selects "InsuredFlame$Surveyor" ({ cls := "InsuredFlame$Surveyor", name := "here", desc := "()I" } : Jvm.MethodName) ({ cls := "InsuredFlame$Scribe", name := "here", desc := "()I" } : Jvm.MethodName)) ∈ lw_all := lw_g (lw_at lw_m3 115 rfl) rfl
theorem q709 : (Jvm.Cond.stringRef "InsuredFlame$Surveyor" (23 : Nat) ".#+~") ∈ lw_tbl := lw_at lw_m3 116 rfl
theorem q710 : (Jvm.Cond.methodLink "InsuredFlame$Surveyor" (25 : Nat) ({ cls := "java/lang/String", name := "indexOf", desc := "(I)I" } : Jvm.MethodName)) ∈ lw_all := lw_g (lw_at lw_m3 117 rfl) rfl
theorem q711 : (Jvm.Cond.methodLink "InsuredFlame$Surveyor" (31 : Nat) ({ cls := "InsuredFlame$Surveyor", name := "place", desc := "()I" } : Jvm.MethodName)) ∈ lw_all := lw_g (lw_at lw_m3 118 rfl) rfl
theorem q712 : (Jvm.Cond.sameMethod "InsuredFlame$Surveyor" "InsuredFlame$Scribe" "place" "()I") ∈ lw_all := lw_g (lw_at lw_m3 119 rfl) rfl
theorem q714 : (Jvm.Cond.selects "InsuredFlame$Surveyor" ({ cls := "InsuredFlame$Surveyor", name := "place", desc := "()I" } : Jvm.MethodName) ({ cls := "InsuredFlame$Scribe", name := "place", desc := "()I" } : Jvm.MethodName)) ∈ lw_all := lw_g (lw_at lw_m3 121 rfl) rfl
theorem q717 : (Jvm.Cond.methodLink "InsuredFlame$Surveyor" (45 : Nat) ({ cls := "InsuredFlame$Surveyor", name := "bad", desc := "(II)V" } : Jvm.MethodName)) ∈ lw_all := lw_g (lw_at lw_m3 124 rfl) rfl
theorem q718 : (Jvm.Cond.sameMethod "InsuredFlame$Surveyor" "InsuredFlame$Scribe" "bad" "(II)V") ∈ lw_all := lw_g (lw_at lw_m3 125 rfl) rfl
theorem q720 : (Jvm.Cond.selects "InsuredFlame$Surveyor" ({ cls := "InsuredFlame$Surveyor", name := "bad", desc := "(II)V" } : Jvm.MethodName) ({ cls := "InsuredFlame$Scribe", name := "bad", desc := "(II)V" } : Jvm.MethodName)) ∈ lw_all := lw_g (lw_at lw_m3 127 rfl) rfl
theorem q723 : (Jvm.Cond.methodLink "InsuredFlame$Surveyor" (53 : Nat) ({ cls := "InsuredFlame$Surveyor", name := "isGood", desc := "()Z" } : Jvm.MethodName)) ∈ lw_all := lw_g (lw_at lw_m3 130 rfl) rfl
theorem q724 : (Jvm.Cond.sameMethod "InsuredFlame$Surveyor" "InsuredFlame$Scribe" "isGood" "()Z") ∈ lw_all := lw_g (lw_at lw_m3 131 rfl) rfl
theorem q726 : (Jvm.Cond.selects "InsuredFlame$Surveyor" ({ cls := "InsuredFlame$Surveyor", name := "isGood", desc := "()Z" } : Jvm.MethodName) ({ cls := "InsuredFlame$Scribe", name := "isGood", desc := "()Z" } : Jvm.MethodName)) ∈ lw_all := lw_g (lw_at lw_m3 133 rfl) rfl
theorem q729 : (Jvm.Cond.methodLink "InsuredFlame$Surveyor" (60 : Nat) ({ cls := "InsuredFlame$Surveyor", name := "sign", desc := "()V" } : Jvm.MethodName)) ∈ lw_all := lw_g (lw_at lw_m3 136 rfl) rfl
theorem q730 : (Jvm.Cond.privateMethod ({ cls := "InsuredFlame$Surveyor", name := "sign", desc := "()V" } : Jvm.MethodName)) ∈ lw_tbl := lw_at lw_m3 137 rfl
theorem q731 : (Jvm.Cond.instanceMethod ({ cls := "InsuredFlame$Surveyor", name := "sign", desc := "()V" } : Jvm.MethodName)) ∈ lw_all := lw_g (lw_at lw_m3 138 rfl) rfl
theorem q732 : (Jvm.Cond.code ({ cls := "InsuredFlame$Surveyor", name := "sign", desc := "()V" } : Jvm.MethodName) prog_16_method_3_code (5 : Nat) (Option.none : Option Jvm.ClassFile.FieldType)) ∈ lw_all := lw_g (lw_at lw_m3 139 rfl) rfl
theorem q733 : (Jvm.Cond.methodLink "InsuredFlame$Surveyor" (38 : Nat) ({ cls := "InsuredFlame$Surveyor", name := "goes", desc := "()V" } : Jvm.MethodName)) ∈ lw_all := lw_g (lw_at lw_m3 140 rfl) rfl
theorem q734 : (Jvm.Cond.sameMethod "InsuredFlame$Surveyor" "InsuredFlame$Scribe" "goes" "()V") ∈ lw_all := lw_g (lw_at lw_m3 141 rfl) rfl
theorem q736 : (Jvm.Cond.selects "InsuredFlame$Surveyor" ({ cls := "InsuredFlame$Surveyor", name := "goes", desc := "()V" } : Jvm.MethodName) ({ cls := "InsuredFlame$Scribe", name := "goes", desc := "()V" } : Jvm.MethodName)) ∈ lw_all := lw_g (lw_at lw_m3 143 rfl) rfl
theorem q739 : (Jvm.Cond.methodLink "InsuredFlame$Surveyor" (63 : Nat) ({ cls := "InsuredFlame$Surveyor", name := "isEnd", desc := "()Z" } : Jvm.MethodName)) ∈ lw_all := lw_g (lw_at lw_m3 146 rfl) rfl
theorem q740 : (Jvm.Cond.sameMethod "InsuredFlame$Surveyor" "InsuredFlame$Scribe" "isEnd" "()Z") ∈ lw_all := lw_g (lw_at lw_m3 147 rfl) rfl
theorem q742 : (Jvm.Cond.selects "InsuredFlame$Surveyor" ({ cls := "InsuredFlame$Surveyor", name := "isEnd", desc := "()Z" } : Jvm.MethodName) ({ cls := "InsuredFlame$Scribe", name := "isEnd", desc := "()Z" } : Jvm.MethodName)) ∈ lw_all := lw_g (lw_at lw_m3 149 rfl) rfl
theorem q745 : (Jvm.Cond.methodLink "InsuredFlame$Surveyor" (69 : Nat) ({ cls := "InsuredFlame$Surveyor", name := "answer", desc := "(I)I" } : Jvm.MethodName)) ∈ lw_all := lw_g (lw_at lw_m3 152 rfl) rfl
theorem q746 : (Jvm.Cond.sameMethod "InsuredFlame$Surveyor" "InsuredFlame$Scribe" "answer" "(I)I") ∈ lw_all := lw_g (lw_at lw_m3 153 rfl) rfl
theorem q748 : (Jvm.Cond.selects "InsuredFlame$Surveyor" ({ cls := "InsuredFlame$Surveyor", name := "answer", desc := "(I)I" } : Jvm.MethodName) ({ cls := "InsuredFlame$Scribe", name := "answer", desc := "(I)I" } : Jvm.MethodName)) ∈ lw_all := lw_g (lw_at lw_m3 155 rfl) rfl
theorem q1740 : (Jvm.Cond.selects "InsuredFlame$Surveyor" ({ cls := "InsuredFlame$Scribe", name := "isGood", desc := "()Z" } : Jvm.MethodName) ({ cls := "InsuredFlame$Scribe", name := "isGood", desc := "()Z" } : Jvm.MethodName)) ∈ lw_all := lw_g (lw_at lw_m7 187 rfl) rfl
theorem in_X17 : ∀ w ∈ wsX170, w ∈ lw_all := lw_in wsX170 [670, 672, 674, 676, 678, 662, 664, 666, 668] (by decide +kernel) (by decide +kernel)
/-! InsuredFlame$Clerk -/
set_option maxRecDepth 100000
def RX18 : String := "InsuredFlame$Clerk"
def TX18 : u_T := fun k => match k with
  | 0 => ("InsuredFlame$Scribe", "n", "I", true)
  | 1 => ("InsuredFlame$Scribe", "at", "I", false)
  | 2 => ("InsuredFlame$Scribe", "fault", "I", false)
  | 3 => ("InsuredFlame$Scribe", "place", "I", false)
  | 4 => ("InsuredFlame$Scribe", "this$0", "LInsuredFlame;", true)
  | 5 => ("InsuredFlame$Clerk", "watered", "[Z", true)
  | 6 => ("InsuredFlame$Clerk", "lines", "I", false)
  | _ => ("InsuredFlame$Clerk", "this$0", "LInsuredFlame;", true)
def tyX18 : Nat → FieldType := fun k => match k with
  | 0 => .int
  | 1 => .int
  | 2 => .int
  | 3 => .int
  | 4 => .object "InsuredFlame"
  | 5 => .array .boolean
  | 6 => .int
  | _ => .object "InsuredFlame"
abbrev wsX180 : List Cond := u_ws RX18 TX18 8
-- two fields of one name: no nmX18
theorem tyX18_ok : ∀ k, k < 8 → parseFieldDescriptor (TX18 k).2.2.1 = some (tyX18 k) := by decide +kernel
abbrev cX18_init : ByteArray := prog_3_method_1_code
def yX18_init : MethodName := ⟨RX18, "<init>", "(LInsuredFlame;I)V"⟩
def dkwX18_init_0 : List UInt8 := [42, 43, 181, 0, 3, 42, 43, 28, 183, 0, 9, 42, 16, 96, 188, 4, 181, 0, 15, 177]
abbrev dktX18_init_0 : List UInt8 := dkwX18_init_0 ++ []
theorem dksX18_init_0 : cX18_init.data.toList.drop 0 = dktX18_init_0 := by decide +kernel
theorem dX18_init_0 : decode cX18_init 0 = .ok (.aload_n 0, 1) := dk_42 (dk_at dksX18_init_0 0 rfl rfl)
theorem dX18_init_1 : decode cX18_init 1 = .ok (.aload_n 1, 1) := dk_43 (dk_at dksX18_init_0 1 rfl rfl)
theorem dX18_init_2 : decode cX18_init 2 = .ok (.putfield 3, 3) := dk_181 0 3 (dk_at dksX18_init_0 2 rfl rfl)
theorem dX18_init_5 : decode cX18_init 5 = .ok (.aload_n 0, 1) := dk_42 (dk_at dksX18_init_0 5 rfl rfl)
theorem dX18_init_6 : decode cX18_init 6 = .ok (.aload_n 1, 1) := dk_43 (dk_at dksX18_init_0 6 rfl rfl)
theorem dX18_init_7 : decode cX18_init 7 = .ok (.iload_n 2, 1) := dk_28 (dk_at dksX18_init_0 7 rfl rfl)
theorem dX18_init_8 : decode cX18_init 8 = .ok (.invokespecial 9, 3) := dk_183 0 9 (dk_at dksX18_init_0 8 rfl rfl)
theorem dX18_init_11 : decode cX18_init 11 = .ok (.aload_n 0, 1) := dk_42 (dk_at dksX18_init_0 11 rfl rfl)
theorem dX18_init_12 : decode cX18_init 12 = .ok (.bipush 96, 2) := dk_16 96 (dk_at dksX18_init_0 12 rfl rfl)
theorem dX18_init_14 : decode cX18_init 14 = .ok (.newarray .boolean, 2) := dk_188_4 (dk_at dksX18_init_0 14 rfl rfl)
theorem dX18_init_16 : decode cX18_init 16 = .ok (.putfield 15, 3) := dk_181 0 15 (dk_at dksX18_init_0 16 rfl rfl)
theorem dX18_init_19 : decode cX18_init 19 = .ok (.return_, 1) := dk_177 (dk_at dksX18_init_0 19 rfl rfl)
abbrev cX18_read : ByteArray := prog_3_method_8_code
def yX18_read : MethodName := ⟨RX18, "read", "()I"⟩
def dkwX18_read_2 : List UInt8 := [182, 0, 106, 167, 255, 209, 42, 42, 180, 0, 91, 182, 0, 112, 172]
abbrev dktX18_read_2 : List UInt8 := dkwX18_read_2 ++ []
def dkwX18_read_1 : List UInt8 := [159, 0, 12, 42, 4, 42, 182, 0, 19, 182, 0, 31, 42, 182, 0, 38, 42, 182, 0, 23, 153, 255, 216, 42]
abbrev dktX18_read_1 : List UInt8 := dkwX18_read_1 ++ dktX18_read_2
def dkwX18_read_0 : List UInt8 := [42, 182, 0, 106, 42, 182, 0, 23, 153, 0, 46, 42, 182, 0, 109, 154, 0, 39, 42, 182, 0, 35, 16, 59]
abbrev dktX18_read_0 : List UInt8 := dkwX18_read_0 ++ dktX18_read_1
theorem dksX18_read_0 : cX18_read.data.toList.drop 0 = dktX18_read_0 := by decide +kernel
theorem dksX18_read_1 : cX18_read.data.toList.drop 24 = dktX18_read_1 := dk_seg dksX18_read_0 24 rfl rfl
theorem dksX18_read_2 : cX18_read.data.toList.drop 48 = dktX18_read_2 := dk_seg dksX18_read_1 24 rfl rfl
theorem dX18_read_0 : decode cX18_read 0 = .ok (.aload_n 0, 1) := dk_42 (dk_at dksX18_read_0 0 rfl rfl)
theorem dX18_read_1 : decode cX18_read 1 = .ok (.invokevirtual 106, 3) := dk_182 0 106 (dk_at dksX18_read_0 1 rfl rfl)
theorem dX18_read_4 : decode cX18_read 4 = .ok (.aload_n 0, 1) := dk_42 (dk_at dksX18_read_0 4 rfl rfl)
theorem dX18_read_5 : decode cX18_read 5 = .ok (.invokevirtual 23, 3) := dk_182 0 23 (dk_at dksX18_read_0 5 rfl rfl)
theorem dX18_read_8 : decode cX18_read 8 = .ok (.ifCond .eq 46, 3) := dk_153 0 46 (dk_at dksX18_read_0 8 rfl rfl)
theorem dX18_read_11 : decode cX18_read 11 = .ok (.aload_n 0, 1) := dk_42 (dk_at dksX18_read_0 11 rfl rfl)
theorem dX18_read_12 : decode cX18_read 12 = .ok (.invokevirtual 109, 3) := dk_182 0 109 (dk_at dksX18_read_0 12 rfl rfl)
theorem dX18_read_15 : decode cX18_read 15 = .ok (.ifCond .ne 39, 3) := dk_154 0 39 (dk_at dksX18_read_0 15 rfl rfl)
theorem dX18_read_18 : decode cX18_read 18 = .ok (.aload_n 0, 1) := dk_42 (dk_at dksX18_read_0 18 rfl rfl)
theorem dX18_read_19 : decode cX18_read 19 = .ok (.invokevirtual 35, 3) := dk_182 0 35 (dk_at dksX18_read_0 19 rfl rfl)
theorem dX18_read_22 : decode cX18_read 22 = .ok (.bipush 59, 2) := dk_16 59 (dk_at dksX18_read_0 22 rfl rfl)
theorem dX18_read_24 : decode cX18_read 24 = .ok (.if_icmp .eq 12, 3) := dk_159 0 12 (dk_at dksX18_read_1 0 rfl rfl)
theorem dX18_read_27 : decode cX18_read 27 = .ok (.aload_n 0, 1) := dk_42 (dk_at dksX18_read_1 3 rfl rfl)
theorem dX18_read_28 : decode cX18_read 28 = .ok (.iconst 1, 1) := dk_4 (dk_at dksX18_read_1 4 rfl rfl)
theorem dX18_read_29 : decode cX18_read 29 = .ok (.aload_n 0, 1) := dk_42 (dk_at dksX18_read_1 5 rfl rfl)
theorem dX18_read_30 : decode cX18_read 30 = .ok (.invokevirtual 19, 3) := dk_182 0 19 (dk_at dksX18_read_1 6 rfl rfl)
theorem dX18_read_33 : decode cX18_read 33 = .ok (.invokevirtual 31, 3) := dk_182 0 31 (dk_at dksX18_read_1 9 rfl rfl)
theorem dX18_read_36 : decode cX18_read 36 = .ok (.aload_n 0, 1) := dk_42 (dk_at dksX18_read_1 12 rfl rfl)
theorem dX18_read_37 : decode cX18_read 37 = .ok (.invokevirtual 38, 3) := dk_182 0 38 (dk_at dksX18_read_1 13 rfl rfl)
theorem dX18_read_40 : decode cX18_read 40 = .ok (.aload_n 0, 1) := dk_42 (dk_at dksX18_read_1 16 rfl rfl)
theorem dX18_read_41 : decode cX18_read 41 = .ok (.invokevirtual 23, 3) := dk_182 0 23 (dk_at dksX18_read_1 17 rfl rfl)
theorem dX18_read_44 : decode cX18_read 44 = .ok (.ifCond .eq (-40), 3) := dk_153 255 216 (dk_at dksX18_read_1 20 rfl rfl)
theorem dX18_read_47 : decode cX18_read 47 = .ok (.aload_n 0, 1) := dk_42 (dk_at dksX18_read_1 23 rfl rfl)
theorem dX18_read_48 : decode cX18_read 48 = .ok (.invokevirtual 106, 3) := dk_182 0 106 (dk_at dksX18_read_2 0 rfl rfl)
theorem dX18_read_51 : decode cX18_read 51 = .ok (.goto (-47), 3) := dk_167 255 209 (dk_at dksX18_read_2 3 rfl rfl)
theorem dX18_read_54 : decode cX18_read 54 = .ok (.aload_n 0, 1) := dk_42 (dk_at dksX18_read_2 6 rfl rfl)
theorem dX18_read_55 : decode cX18_read 55 = .ok (.aload_n 0, 1) := dk_42 (dk_at dksX18_read_2 7 rfl rfl)
theorem dX18_read_56 : decode cX18_read 56 = .ok (.getfield 91, 3) := dk_180 0 91 (dk_at dksX18_read_2 8 rfl rfl)
theorem dX18_read_59 : decode cX18_read 59 = .ok (.invokevirtual 112, 3) := dk_182 0 112 (dk_at dksX18_read_2 11 rfl rfl)
theorem dX18_read_62 : decode cX18_read 62 = .ok (.ireturn, 1) := dk_172 (dk_at dksX18_read_2 14 rfl rfl)
abbrev cX18_line : ByteArray := prog_3_method_7_code
def yX18_line : MethodName := ⟨RX18, "line", "()V"⟩
def dkwX18_line_7 : List UInt8 := [177]
abbrev dktX18_line_7 : List UInt8 := dkwX18_line_7 ++ []
def dkwX18_line_6 : List UInt8 := [182, 0, 31, 42, 180, 0, 3, 180, 0, 46, 42, 182, 0, 35, 16, 48, 100, 181, 0, 103, 42, 182, 0, 38]
abbrev dktX18_line_6 : List UInt8 := dkwX18_line_6 ++ dktX18_line_7
def dkwX18_line_5 : List UInt8 := [182, 0, 100, 167, 0, 44, 42, 16, 48, 16, 51, 182, 0, 27, 154, 0, 12, 42, 4, 42, 182, 0, 19]
abbrev dktX18_line_5 : List UInt8 := dkwX18_line_5 ++ dktX18_line_6
def dkwX18_line_4 : List UInt8 := [182, 0, 38, 28, 16, 42, 160, 0, 10, 42, 182, 0, 97, 167, 0, 57, 28, 16, 126, 160, 0, 10, 42]
abbrev dktX18_line_4 : List UInt8 := dkwX18_line_4 ++ dktX18_line_5
def dkwX18_line_3 : List UInt8 := [96, 181, 0, 91, 42, 182, 0, 23, 154, 0, 4, 177, 29, 153, 0, 8, 42, 182, 0, 94, 177, 42]
abbrev dktX18_line_3 : List UInt8 := dkwX18_line_3 ++ dktX18_line_4
def dkwX18_line_2 : List UInt8 := [167, 0, 18, 42, 180, 0, 91, 16, 16, 160, 0, 9, 42, 7, 27, 182, 0, 31, 42, 89, 180, 0, 91, 4]
abbrev dktX18_line_2 : List UInt8 := dkwX18_line_2 ++ dktX18_line_3
def dkwX18_line_1 : List UInt8 := [16, 42, 159, 0, 24, 28, 16, 126, 159, 0, 18, 28, 16, 33, 159, 0, 12, 42, 4, 27, 182, 0, 31]
abbrev dktX18_line_1 : List UInt8 := dkwX18_line_1 ++ dktX18_line_2
def dkwX18_line_0 : List UInt8 := [42, 182, 0, 19, 60, 42, 182, 0, 35, 61, 42, 16, 48, 16, 57, 182, 0, 27, 62, 29, 154, 0, 30, 28]
abbrev dktX18_line_0 : List UInt8 := dkwX18_line_0 ++ dktX18_line_1
theorem dksX18_line_0 : cX18_line.data.toList.drop 0 = dktX18_line_0 := by decide +kernel
theorem dksX18_line_1 : cX18_line.data.toList.drop 24 = dktX18_line_1 := dk_seg dksX18_line_0 24 rfl rfl
theorem dksX18_line_2 : cX18_line.data.toList.drop 47 = dktX18_line_2 := dk_seg dksX18_line_1 23 rfl rfl
theorem dksX18_line_3 : cX18_line.data.toList.drop 71 = dktX18_line_3 := dk_seg dksX18_line_2 24 rfl rfl
theorem dksX18_line_4 : cX18_line.data.toList.drop 93 = dktX18_line_4 := dk_seg dksX18_line_3 22 rfl rfl
theorem dksX18_line_5 : cX18_line.data.toList.drop 116 = dktX18_line_5 := dk_seg dksX18_line_4 23 rfl rfl
theorem dksX18_line_6 : cX18_line.data.toList.drop 139 = dktX18_line_6 := dk_seg dksX18_line_5 23 rfl rfl
theorem dksX18_line_7 : cX18_line.data.toList.drop 163 = dktX18_line_7 := dk_seg dksX18_line_6 24 rfl rfl
theorem dX18_line_0 : decode cX18_line 0 = .ok (.aload_n 0, 1) := dk_42 (dk_at dksX18_line_0 0 rfl rfl)
theorem dX18_line_1 : decode cX18_line 1 = .ok (.invokevirtual 19, 3) := dk_182 0 19 (dk_at dksX18_line_0 1 rfl rfl)
theorem dX18_line_4 : decode cX18_line 4 = .ok (.istore_n 1, 1) := dk_60 (dk_at dksX18_line_0 4 rfl rfl)
theorem dX18_line_5 : decode cX18_line 5 = .ok (.aload_n 0, 1) := dk_42 (dk_at dksX18_line_0 5 rfl rfl)
theorem dX18_line_6 : decode cX18_line 6 = .ok (.invokevirtual 35, 3) := dk_182 0 35 (dk_at dksX18_line_0 6 rfl rfl)
theorem dX18_line_9 : decode cX18_line 9 = .ok (.istore_n 2, 1) := dk_61 (dk_at dksX18_line_0 9 rfl rfl)
theorem dX18_line_10 : decode cX18_line 10 = .ok (.aload_n 0, 1) := dk_42 (dk_at dksX18_line_0 10 rfl rfl)
theorem dX18_line_11 : decode cX18_line 11 = .ok (.bipush 48, 2) := dk_16 48 (dk_at dksX18_line_0 11 rfl rfl)
theorem dX18_line_13 : decode cX18_line 13 = .ok (.bipush 57, 2) := dk_16 57 (dk_at dksX18_line_0 13 rfl rfl)
theorem dX18_line_15 : decode cX18_line 15 = .ok (.invokevirtual 27, 3) := dk_182 0 27 (dk_at dksX18_line_0 15 rfl rfl)
theorem dX18_line_18 : decode cX18_line 18 = .ok (.istore_n 3, 1) := dk_62 (dk_at dksX18_line_0 18 rfl rfl)
theorem dX18_line_19 : decode cX18_line 19 = .ok (.iload_n 3, 1) := dk_29 (dk_at dksX18_line_0 19 rfl rfl)
theorem dX18_line_20 : decode cX18_line 20 = .ok (.ifCond .ne 30, 3) := dk_154 0 30 (dk_at dksX18_line_0 20 rfl rfl)
theorem dX18_line_23 : decode cX18_line 23 = .ok (.iload_n 2, 1) := dk_28 (dk_at dksX18_line_0 23 rfl rfl)
theorem dX18_line_24 : decode cX18_line 24 = .ok (.bipush 42, 2) := dk_16 42 (dk_at dksX18_line_1 0 rfl rfl)
theorem dX18_line_26 : decode cX18_line 26 = .ok (.if_icmp .eq 24, 3) := dk_159 0 24 (dk_at dksX18_line_1 2 rfl rfl)
theorem dX18_line_29 : decode cX18_line 29 = .ok (.iload_n 2, 1) := dk_28 (dk_at dksX18_line_1 5 rfl rfl)
theorem dX18_line_30 : decode cX18_line 30 = .ok (.bipush 126, 2) := dk_16 126 (dk_at dksX18_line_1 6 rfl rfl)
theorem dX18_line_32 : decode cX18_line 32 = .ok (.if_icmp .eq 18, 3) := dk_159 0 18 (dk_at dksX18_line_1 8 rfl rfl)
theorem dX18_line_35 : decode cX18_line 35 = .ok (.iload_n 2, 1) := dk_28 (dk_at dksX18_line_1 11 rfl rfl)
theorem dX18_line_36 : decode cX18_line 36 = .ok (.bipush 33, 2) := dk_16 33 (dk_at dksX18_line_1 12 rfl rfl)
theorem dX18_line_38 : decode cX18_line 38 = .ok (.if_icmp .eq 12, 3) := dk_159 0 12 (dk_at dksX18_line_1 14 rfl rfl)
theorem dX18_line_41 : decode cX18_line 41 = .ok (.aload_n 0, 1) := dk_42 (dk_at dksX18_line_1 17 rfl rfl)
theorem dX18_line_42 : decode cX18_line 42 = .ok (.iconst 1, 1) := dk_4 (dk_at dksX18_line_1 18 rfl rfl)
theorem dX18_line_43 : decode cX18_line 43 = .ok (.iload_n 1, 1) := dk_27 (dk_at dksX18_line_1 19 rfl rfl)
theorem dX18_line_44 : decode cX18_line 44 = .ok (.invokevirtual 31, 3) := dk_182 0 31 (dk_at dksX18_line_1 20 rfl rfl)
theorem dX18_line_47 : decode cX18_line 47 = .ok (.goto 18, 3) := dk_167 0 18 (dk_at dksX18_line_2 0 rfl rfl)
theorem dX18_line_50 : decode cX18_line 50 = .ok (.aload_n 0, 1) := dk_42 (dk_at dksX18_line_2 3 rfl rfl)
theorem dX18_line_51 : decode cX18_line 51 = .ok (.getfield 91, 3) := dk_180 0 91 (dk_at dksX18_line_2 4 rfl rfl)
theorem dX18_line_54 : decode cX18_line 54 = .ok (.bipush 16, 2) := dk_16 16 (dk_at dksX18_line_2 7 rfl rfl)
theorem dX18_line_56 : decode cX18_line 56 = .ok (.if_icmp .ne 9, 3) := dk_160 0 9 (dk_at dksX18_line_2 9 rfl rfl)
theorem dX18_line_59 : decode cX18_line 59 = .ok (.aload_n 0, 1) := dk_42 (dk_at dksX18_line_2 12 rfl rfl)
theorem dX18_line_60 : decode cX18_line 60 = .ok (.iconst 4, 1) := dk_7 (dk_at dksX18_line_2 13 rfl rfl)
theorem dX18_line_61 : decode cX18_line 61 = .ok (.iload_n 1, 1) := dk_27 (dk_at dksX18_line_2 14 rfl rfl)
theorem dX18_line_62 : decode cX18_line 62 = .ok (.invokevirtual 31, 3) := dk_182 0 31 (dk_at dksX18_line_2 15 rfl rfl)
theorem dX18_line_65 : decode cX18_line 65 = .ok (.aload_n 0, 1) := dk_42 (dk_at dksX18_line_2 18 rfl rfl)
theorem dX18_line_66 : decode cX18_line 66 = .ok (.dup, 1) := dk_89 (dk_at dksX18_line_2 19 rfl rfl)
theorem dX18_line_67 : decode cX18_line 67 = .ok (.getfield 91, 3) := dk_180 0 91 (dk_at dksX18_line_2 20 rfl rfl)
theorem dX18_line_70 : decode cX18_line 70 = .ok (.iconst 1, 1) := dk_4 (dk_at dksX18_line_2 23 rfl rfl)
theorem dX18_line_71 : decode cX18_line 71 = .ok (.iadd, 1) := dk_96 (dk_at dksX18_line_3 0 rfl rfl)
theorem dX18_line_72 : decode cX18_line 72 = .ok (.putfield 91, 3) := dk_181 0 91 (dk_at dksX18_line_3 1 rfl rfl)
theorem dX18_line_75 : decode cX18_line 75 = .ok (.aload_n 0, 1) := dk_42 (dk_at dksX18_line_3 4 rfl rfl)
theorem dX18_line_76 : decode cX18_line 76 = .ok (.invokevirtual 23, 3) := dk_182 0 23 (dk_at dksX18_line_3 5 rfl rfl)
theorem dX18_line_79 : decode cX18_line 79 = .ok (.ifCond .ne 4, 3) := dk_154 0 4 (dk_at dksX18_line_3 8 rfl rfl)
theorem dX18_line_82 : decode cX18_line 82 = .ok (.return_, 1) := dk_177 (dk_at dksX18_line_3 11 rfl rfl)
theorem dX18_line_83 : decode cX18_line 83 = .ok (.iload_n 3, 1) := dk_29 (dk_at dksX18_line_3 12 rfl rfl)
theorem dX18_line_84 : decode cX18_line 84 = .ok (.ifCond .eq 8, 3) := dk_153 0 8 (dk_at dksX18_line_3 13 rfl rfl)
theorem dX18_line_87 : decode cX18_line 87 = .ok (.aload_n 0, 1) := dk_42 (dk_at dksX18_line_3 16 rfl rfl)
theorem dX18_line_88 : decode cX18_line 88 = .ok (.invokevirtual 94, 3) := dk_182 0 94 (dk_at dksX18_line_3 17 rfl rfl)
theorem dX18_line_91 : decode cX18_line 91 = .ok (.return_, 1) := dk_177 (dk_at dksX18_line_3 20 rfl rfl)
theorem dX18_line_92 : decode cX18_line 92 = .ok (.aload_n 0, 1) := dk_42 (dk_at dksX18_line_3 21 rfl rfl)
theorem dX18_line_93 : decode cX18_line 93 = .ok (.invokevirtual 38, 3) := dk_182 0 38 (dk_at dksX18_line_4 0 rfl rfl)
theorem dX18_line_96 : decode cX18_line 96 = .ok (.iload_n 2, 1) := dk_28 (dk_at dksX18_line_4 3 rfl rfl)
theorem dX18_line_97 : decode cX18_line 97 = .ok (.bipush 42, 2) := dk_16 42 (dk_at dksX18_line_4 4 rfl rfl)
theorem dX18_line_99 : decode cX18_line 99 = .ok (.if_icmp .ne 10, 3) := dk_160 0 10 (dk_at dksX18_line_4 6 rfl rfl)
theorem dX18_line_102 : decode cX18_line 102 = .ok (.aload_n 0, 1) := dk_42 (dk_at dksX18_line_4 9 rfl rfl)
theorem dX18_line_103 : decode cX18_line 103 = .ok (.invokevirtual 97, 3) := dk_182 0 97 (dk_at dksX18_line_4 10 rfl rfl)
theorem dX18_line_106 : decode cX18_line 106 = .ok (.goto 57, 3) := dk_167 0 57 (dk_at dksX18_line_4 13 rfl rfl)
theorem dX18_line_109 : decode cX18_line 109 = .ok (.iload_n 2, 1) := dk_28 (dk_at dksX18_line_4 16 rfl rfl)
theorem dX18_line_110 : decode cX18_line 110 = .ok (.bipush 126, 2) := dk_16 126 (dk_at dksX18_line_4 17 rfl rfl)
theorem dX18_line_112 : decode cX18_line 112 = .ok (.if_icmp .ne 10, 3) := dk_160 0 10 (dk_at dksX18_line_4 19 rfl rfl)
theorem dX18_line_115 : decode cX18_line 115 = .ok (.aload_n 0, 1) := dk_42 (dk_at dksX18_line_4 22 rfl rfl)
theorem dX18_line_116 : decode cX18_line 116 = .ok (.invokevirtual 100, 3) := dk_182 0 100 (dk_at dksX18_line_5 0 rfl rfl)
theorem dX18_line_119 : decode cX18_line 119 = .ok (.goto 44, 3) := dk_167 0 44 (dk_at dksX18_line_5 3 rfl rfl)
theorem dX18_line_122 : decode cX18_line 122 = .ok (.aload_n 0, 1) := dk_42 (dk_at dksX18_line_5 6 rfl rfl)
theorem dX18_line_123 : decode cX18_line 123 = .ok (.bipush 48, 2) := dk_16 48 (dk_at dksX18_line_5 7 rfl rfl)
theorem dX18_line_125 : decode cX18_line 125 = .ok (.bipush 51, 2) := dk_16 51 (dk_at dksX18_line_5 9 rfl rfl)
theorem dX18_line_127 : decode cX18_line 127 = .ok (.invokevirtual 27, 3) := dk_182 0 27 (dk_at dksX18_line_5 11 rfl rfl)
theorem dX18_line_130 : decode cX18_line 130 = .ok (.ifCond .ne 12, 3) := dk_154 0 12 (dk_at dksX18_line_5 14 rfl rfl)
theorem dX18_line_133 : decode cX18_line 133 = .ok (.aload_n 0, 1) := dk_42 (dk_at dksX18_line_5 17 rfl rfl)
theorem dX18_line_134 : decode cX18_line 134 = .ok (.iconst 1, 1) := dk_4 (dk_at dksX18_line_5 18 rfl rfl)
theorem dX18_line_135 : decode cX18_line 135 = .ok (.aload_n 0, 1) := dk_42 (dk_at dksX18_line_5 19 rfl rfl)
theorem dX18_line_136 : decode cX18_line 136 = .ok (.invokevirtual 19, 3) := dk_182 0 19 (dk_at dksX18_line_5 20 rfl rfl)
theorem dX18_line_139 : decode cX18_line 139 = .ok (.invokevirtual 31, 3) := dk_182 0 31 (dk_at dksX18_line_6 0 rfl rfl)
theorem dX18_line_142 : decode cX18_line 142 = .ok (.aload_n 0, 1) := dk_42 (dk_at dksX18_line_6 3 rfl rfl)
theorem dX18_line_143 : decode cX18_line 143 = .ok (.getfield 3, 3) := dk_180 0 3 (dk_at dksX18_line_6 4 rfl rfl)
theorem dX18_line_146 : decode cX18_line 146 = .ok (.getfield 46, 3) := dk_180 0 46 (dk_at dksX18_line_6 7 rfl rfl)
theorem dX18_line_149 : decode cX18_line 149 = .ok (.aload_n 0, 1) := dk_42 (dk_at dksX18_line_6 10 rfl rfl)
theorem dX18_line_150 : decode cX18_line 150 = .ok (.invokevirtual 35, 3) := dk_182 0 35 (dk_at dksX18_line_6 11 rfl rfl)
theorem dX18_line_153 : decode cX18_line 153 = .ok (.bipush 48, 2) := dk_16 48 (dk_at dksX18_line_6 14 rfl rfl)
theorem dX18_line_155 : decode cX18_line 155 = .ok (.isub, 1) := dk_100 (dk_at dksX18_line_6 16 rfl rfl)
theorem dX18_line_156 : decode cX18_line 156 = .ok (.putfield 103, 3) := dk_181 0 103 (dk_at dksX18_line_6 17 rfl rfl)
theorem dX18_line_159 : decode cX18_line 159 = .ok (.aload_n 0, 1) := dk_42 (dk_at dksX18_line_6 20 rfl rfl)
theorem dX18_line_160 : decode cX18_line 160 = .ok (.invokevirtual 38, 3) := dk_182 0 38 (dk_at dksX18_line_6 21 rfl rfl)
theorem dX18_line_163 : decode cX18_line 163 = .ok (.return_, 1) := dk_177 (dk_at dksX18_line_7 0 rfl rfl)
abbrev cX18_thing : ByteArray := prog_3_method_4_code
def yX18_thing : MethodName := ⟨RX18, "thing", "()V"⟩
def dkwX18_thing_9 : List UInt8 := [21, 5, 181, 0, 71, 167, 0, 10, 25, 4, 21, 5, 181, 0, 74, 177]
abbrev dktX18_thing_9 : List UInt8 := dkwX18_thing_9 ++ []
def dkwX18_thing_8 : List UInt8 := [25, 4, 21, 5, 181, 0, 65, 25, 4, 4, 181, 0, 56, 25, 4, 3, 181, 0, 68, 167, 0, 20, 25, 4]
abbrev dktX18_thing_8 : List UInt8 := dkwX18_thing_8 ++ dktX18_thing_9
def dkwX18_thing_7 : List UInt8 := [171, 0, 0, 0, 0, 58, 0, 0, 0, 2, 0, 0, 0, 61, 0, 0, 0, 48, 0, 0, 0, 64, 0, 0, 0, 26]
abbrev dktX18_thing_7 : List UInt8 := dkwX18_thing_7 ++ dktX18_thing_8
def dkwX18_thing_6 : List UInt8 := [154, 0, 4, 177, 29]
abbrev dktX18_thing_6 : List UInt8 := dkwX18_thing_6 ++ dktX18_thing_7
def dkwX18_thing_5 : List UInt8 := [160, 0, 10, 42, 182, 0, 62, 167, 0, 10, 42, 17, 39, 15, 182, 0, 42, 54, 5, 42, 182, 0, 23]
abbrev dktX18_thing_5 : List UInt8 := dkwX18_thing_5 ++ dktX18_thing_6
def dkwX18_thing_4 : List UInt8 := [182, 0, 23, 154, 0, 4, 177, 42, 180, 0, 3, 180, 0, 46, 180, 0, 50, 28, 50, 58, 4, 29, 16, 64]
abbrev dktX18_thing_4 : List UInt8 := dkwX18_thing_4 ++ dktX18_thing_5
def dkwX18_thing_3 : List UInt8 := [180, 0, 50, 28, 50, 180, 0, 56, 154, 0, 10, 42, 16, 7, 27, 182, 0, 31, 42, 182, 0, 38, 42]
abbrev dktX18_thing_3 : List UInt8 := dkwX18_thing_3 ++ dktX18_thing_4
def dkwX18_thing_2 : List UInt8 := [182, 0, 31, 42, 182, 0, 23, 153, 0, 34, 29, 16, 64, 159, 0, 28, 42, 180, 0, 3, 180, 0, 46]
abbrev dktX18_thing_2 : List UInt8 := dkwX18_thing_2 ++ dktX18_thing_3
def dkwX18_thing_1 : List UInt8 := [29, 16, 64, 159, 0, 24, 29, 16, 61, 159, 0, 18, 29, 16, 43, 159, 0, 12, 42, 4, 42, 182, 0, 19]
abbrev dktX18_thing_1 : List UInt8 := dkwX18_thing_1 ++ dktX18_thing_2
def dkwX18_thing_0 : List UInt8 := [42, 182, 0, 19, 60, 42, 16, 23, 182, 0, 42, 61, 42, 182, 0, 35, 62, 42, 182, 0, 23, 153, 0, 30]
abbrev dktX18_thing_0 : List UInt8 := dkwX18_thing_0 ++ dktX18_thing_1
theorem dksX18_thing_0 : cX18_thing.data.toList.drop 0 = dktX18_thing_0 := by decide +kernel
theorem dksX18_thing_1 : cX18_thing.data.toList.drop 24 = dktX18_thing_1 := dk_seg dksX18_thing_0 24 rfl rfl
theorem dksX18_thing_2 : cX18_thing.data.toList.drop 48 = dktX18_thing_2 := dk_seg dksX18_thing_1 24 rfl rfl
theorem dksX18_thing_3 : cX18_thing.data.toList.drop 71 = dktX18_thing_3 := dk_seg dksX18_thing_2 23 rfl rfl
theorem dksX18_thing_4 : cX18_thing.data.toList.drop 94 = dktX18_thing_4 := dk_seg dksX18_thing_3 23 rfl rfl
theorem dksX18_thing_5 : cX18_thing.data.toList.drop 118 = dktX18_thing_5 := dk_seg dksX18_thing_4 24 rfl rfl
theorem dksX18_thing_6 : cX18_thing.data.toList.drop 141 = dktX18_thing_6 := dk_seg dksX18_thing_5 23 rfl rfl
theorem dksX18_thing_7 : cX18_thing.data.toList.drop 146 = dktX18_thing_7 := dk_seg dksX18_thing_6 5 rfl rfl
theorem dksX18_thing_8 : cX18_thing.data.toList.drop 172 = dktX18_thing_8 := dk_seg dksX18_thing_7 26 rfl rfl
theorem dksX18_thing_9 : cX18_thing.data.toList.drop 196 = dktX18_thing_9 := dk_seg dksX18_thing_8 24 rfl rfl
theorem dX18_thing_0 : decode cX18_thing 0 = .ok (.aload_n 0, 1) := dk_42 (dk_at dksX18_thing_0 0 rfl rfl)
theorem dX18_thing_1 : decode cX18_thing 1 = .ok (.invokevirtual 19, 3) := dk_182 0 19 (dk_at dksX18_thing_0 1 rfl rfl)
theorem dX18_thing_4 : decode cX18_thing 4 = .ok (.istore_n 1, 1) := dk_60 (dk_at dksX18_thing_0 4 rfl rfl)
theorem dX18_thing_5 : decode cX18_thing 5 = .ok (.aload_n 0, 1) := dk_42 (dk_at dksX18_thing_0 5 rfl rfl)
theorem dX18_thing_6 : decode cX18_thing 6 = .ok (.bipush 23, 2) := dk_16 23 (dk_at dksX18_thing_0 6 rfl rfl)
theorem dX18_thing_8 : decode cX18_thing 8 = .ok (.invokevirtual 42, 3) := dk_182 0 42 (dk_at dksX18_thing_0 8 rfl rfl)
theorem dX18_thing_11 : decode cX18_thing 11 = .ok (.istore_n 2, 1) := dk_61 (dk_at dksX18_thing_0 11 rfl rfl)
theorem dX18_thing_12 : decode cX18_thing 12 = .ok (.aload_n 0, 1) := dk_42 (dk_at dksX18_thing_0 12 rfl rfl)
theorem dX18_thing_13 : decode cX18_thing 13 = .ok (.invokevirtual 35, 3) := dk_182 0 35 (dk_at dksX18_thing_0 13 rfl rfl)
theorem dX18_thing_16 : decode cX18_thing 16 = .ok (.istore_n 3, 1) := dk_62 (dk_at dksX18_thing_0 16 rfl rfl)
theorem dX18_thing_17 : decode cX18_thing 17 = .ok (.aload_n 0, 1) := dk_42 (dk_at dksX18_thing_0 17 rfl rfl)
theorem dX18_thing_18 : decode cX18_thing 18 = .ok (.invokevirtual 23, 3) := dk_182 0 23 (dk_at dksX18_thing_0 18 rfl rfl)
theorem dX18_thing_21 : decode cX18_thing 21 = .ok (.ifCond .eq 30, 3) := dk_153 0 30 (dk_at dksX18_thing_0 21 rfl rfl)
theorem dX18_thing_24 : decode cX18_thing 24 = .ok (.iload_n 3, 1) := dk_29 (dk_at dksX18_thing_1 0 rfl rfl)
theorem dX18_thing_25 : decode cX18_thing 25 = .ok (.bipush 64, 2) := dk_16 64 (dk_at dksX18_thing_1 1 rfl rfl)
theorem dX18_thing_27 : decode cX18_thing 27 = .ok (.if_icmp .eq 24, 3) := dk_159 0 24 (dk_at dksX18_thing_1 3 rfl rfl)
theorem dX18_thing_30 : decode cX18_thing 30 = .ok (.iload_n 3, 1) := dk_29 (dk_at dksX18_thing_1 6 rfl rfl)
theorem dX18_thing_31 : decode cX18_thing 31 = .ok (.bipush 61, 2) := dk_16 61 (dk_at dksX18_thing_1 7 rfl rfl)
theorem dX18_thing_33 : decode cX18_thing 33 = .ok (.if_icmp .eq 18, 3) := dk_159 0 18 (dk_at dksX18_thing_1 9 rfl rfl)
theorem dX18_thing_36 : decode cX18_thing 36 = .ok (.iload_n 3, 1) := dk_29 (dk_at dksX18_thing_1 12 rfl rfl)
theorem dX18_thing_37 : decode cX18_thing 37 = .ok (.bipush 43, 2) := dk_16 43 (dk_at dksX18_thing_1 13 rfl rfl)
theorem dX18_thing_39 : decode cX18_thing 39 = .ok (.if_icmp .eq 12, 3) := dk_159 0 12 (dk_at dksX18_thing_1 15 rfl rfl)
theorem dX18_thing_42 : decode cX18_thing 42 = .ok (.aload_n 0, 1) := dk_42 (dk_at dksX18_thing_1 18 rfl rfl)
theorem dX18_thing_43 : decode cX18_thing 43 = .ok (.iconst 1, 1) := dk_4 (dk_at dksX18_thing_1 19 rfl rfl)
theorem dX18_thing_44 : decode cX18_thing 44 = .ok (.aload_n 0, 1) := dk_42 (dk_at dksX18_thing_1 20 rfl rfl)
theorem dX18_thing_45 : decode cX18_thing 45 = .ok (.invokevirtual 19, 3) := dk_182 0 19 (dk_at dksX18_thing_1 21 rfl rfl)
theorem dX18_thing_48 : decode cX18_thing 48 = .ok (.invokevirtual 31, 3) := dk_182 0 31 (dk_at dksX18_thing_2 0 rfl rfl)
theorem dX18_thing_51 : decode cX18_thing 51 = .ok (.aload_n 0, 1) := dk_42 (dk_at dksX18_thing_2 3 rfl rfl)
theorem dX18_thing_52 : decode cX18_thing 52 = .ok (.invokevirtual 23, 3) := dk_182 0 23 (dk_at dksX18_thing_2 4 rfl rfl)
theorem dX18_thing_55 : decode cX18_thing 55 = .ok (.ifCond .eq 34, 3) := dk_153 0 34 (dk_at dksX18_thing_2 7 rfl rfl)
theorem dX18_thing_58 : decode cX18_thing 58 = .ok (.iload_n 3, 1) := dk_29 (dk_at dksX18_thing_2 10 rfl rfl)
theorem dX18_thing_59 : decode cX18_thing 59 = .ok (.bipush 64, 2) := dk_16 64 (dk_at dksX18_thing_2 11 rfl rfl)
theorem dX18_thing_61 : decode cX18_thing 61 = .ok (.if_icmp .eq 28, 3) := dk_159 0 28 (dk_at dksX18_thing_2 13 rfl rfl)
theorem dX18_thing_64 : decode cX18_thing 64 = .ok (.aload_n 0, 1) := dk_42 (dk_at dksX18_thing_2 16 rfl rfl)
theorem dX18_thing_65 : decode cX18_thing 65 = .ok (.getfield 3, 3) := dk_180 0 3 (dk_at dksX18_thing_2 17 rfl rfl)
theorem dX18_thing_68 : decode cX18_thing 68 = .ok (.getfield 46, 3) := dk_180 0 46 (dk_at dksX18_thing_2 20 rfl rfl)
theorem dX18_thing_71 : decode cX18_thing 71 = .ok (.getfield 50, 3) := dk_180 0 50 (dk_at dksX18_thing_3 0 rfl rfl)
theorem dX18_thing_74 : decode cX18_thing 74 = .ok (.iload_n 2, 1) := dk_28 (dk_at dksX18_thing_3 3 rfl rfl)
theorem dX18_thing_75 : decode cX18_thing 75 = .ok (.aaload, 1) := dk_50 (dk_at dksX18_thing_3 4 rfl rfl)
theorem dX18_thing_76 : decode cX18_thing 76 = .ok (.getfield 56, 3) := dk_180 0 56 (dk_at dksX18_thing_3 5 rfl rfl)
theorem dX18_thing_79 : decode cX18_thing 79 = .ok (.ifCond .ne 10, 3) := dk_154 0 10 (dk_at dksX18_thing_3 8 rfl rfl)
theorem dX18_thing_82 : decode cX18_thing 82 = .ok (.aload_n 0, 1) := dk_42 (dk_at dksX18_thing_3 11 rfl rfl)
theorem dX18_thing_83 : decode cX18_thing 83 = .ok (.bipush 7, 2) := dk_16 7 (dk_at dksX18_thing_3 12 rfl rfl)
theorem dX18_thing_85 : decode cX18_thing 85 = .ok (.iload_n 1, 1) := dk_27 (dk_at dksX18_thing_3 14 rfl rfl)
theorem dX18_thing_86 : decode cX18_thing 86 = .ok (.invokevirtual 31, 3) := dk_182 0 31 (dk_at dksX18_thing_3 15 rfl rfl)
theorem dX18_thing_89 : decode cX18_thing 89 = .ok (.aload_n 0, 1) := dk_42 (dk_at dksX18_thing_3 18 rfl rfl)
theorem dX18_thing_90 : decode cX18_thing 90 = .ok (.invokevirtual 38, 3) := dk_182 0 38 (dk_at dksX18_thing_3 19 rfl rfl)
theorem dX18_thing_93 : decode cX18_thing 93 = .ok (.aload_n 0, 1) := dk_42 (dk_at dksX18_thing_3 22 rfl rfl)
theorem dX18_thing_94 : decode cX18_thing 94 = .ok (.invokevirtual 23, 3) := dk_182 0 23 (dk_at dksX18_thing_4 0 rfl rfl)
theorem dX18_thing_97 : decode cX18_thing 97 = .ok (.ifCond .ne 4, 3) := dk_154 0 4 (dk_at dksX18_thing_4 3 rfl rfl)
theorem dX18_thing_100 : decode cX18_thing 100 = .ok (.return_, 1) := dk_177 (dk_at dksX18_thing_4 6 rfl rfl)
theorem dX18_thing_101 : decode cX18_thing 101 = .ok (.aload_n 0, 1) := dk_42 (dk_at dksX18_thing_4 7 rfl rfl)
theorem dX18_thing_102 : decode cX18_thing 102 = .ok (.getfield 3, 3) := dk_180 0 3 (dk_at dksX18_thing_4 8 rfl rfl)
theorem dX18_thing_105 : decode cX18_thing 105 = .ok (.getfield 46, 3) := dk_180 0 46 (dk_at dksX18_thing_4 11 rfl rfl)
theorem dX18_thing_108 : decode cX18_thing 108 = .ok (.getfield 50, 3) := dk_180 0 50 (dk_at dksX18_thing_4 14 rfl rfl)
theorem dX18_thing_111 : decode cX18_thing 111 = .ok (.iload_n 2, 1) := dk_28 (dk_at dksX18_thing_4 17 rfl rfl)
theorem dX18_thing_112 : decode cX18_thing 112 = .ok (.aaload, 1) := dk_50 (dk_at dksX18_thing_4 18 rfl rfl)
theorem dX18_thing_113 : decode cX18_thing 113 = .ok (.astore 4, 2) := dk_58 4 (dk_at dksX18_thing_4 19 rfl rfl)
theorem dX18_thing_115 : decode cX18_thing 115 = .ok (.iload_n 3, 1) := dk_29 (dk_at dksX18_thing_4 21 rfl rfl)
theorem dX18_thing_116 : decode cX18_thing 116 = .ok (.bipush 64, 2) := dk_16 64 (dk_at dksX18_thing_4 22 rfl rfl)
theorem dX18_thing_118 : decode cX18_thing 118 = .ok (.if_icmp .ne 10, 3) := dk_160 0 10 (dk_at dksX18_thing_5 0 rfl rfl)
theorem dX18_thing_121 : decode cX18_thing 121 = .ok (.aload_n 0, 1) := dk_42 (dk_at dksX18_thing_5 3 rfl rfl)
theorem dX18_thing_122 : decode cX18_thing 122 = .ok (.invokevirtual 62, 3) := dk_182 0 62 (dk_at dksX18_thing_5 4 rfl rfl)
theorem dX18_thing_125 : decode cX18_thing 125 = .ok (.goto 10, 3) := dk_167 0 10 (dk_at dksX18_thing_5 7 rfl rfl)
theorem dX18_thing_128 : decode cX18_thing 128 = .ok (.aload_n 0, 1) := dk_42 (dk_at dksX18_thing_5 10 rfl rfl)
theorem dX18_thing_129 : decode cX18_thing 129 = .ok (.sipush 9999, 3) := dk_17 39 15 (dk_at dksX18_thing_5 11 rfl rfl)
theorem dX18_thing_132 : decode cX18_thing 132 = .ok (.invokevirtual 42, 3) := dk_182 0 42 (dk_at dksX18_thing_5 14 rfl rfl)
theorem dX18_thing_135 : decode cX18_thing 135 = .ok (.istore 5, 2) := dk_54 5 (dk_at dksX18_thing_5 17 rfl rfl)
theorem dX18_thing_137 : decode cX18_thing 137 = .ok (.aload_n 0, 1) := dk_42 (dk_at dksX18_thing_5 19 rfl rfl)
theorem dX18_thing_138 : decode cX18_thing 138 = .ok (.invokevirtual 23, 3) := dk_182 0 23 (dk_at dksX18_thing_5 20 rfl rfl)
theorem dX18_thing_141 : decode cX18_thing 141 = .ok (.ifCond .ne 4, 3) := dk_154 0 4 (dk_at dksX18_thing_6 0 rfl rfl)
theorem dX18_thing_144 : decode cX18_thing 144 = .ok (.return_, 1) := dk_177 (dk_at dksX18_thing_6 3 rfl rfl)
theorem dX18_thing_145 : decode cX18_thing 145 = .ok (.iload_n 3, 1) := dk_29 (dk_at dksX18_thing_6 4 rfl rfl)
theorem dX18_thing_146 : decode cX18_thing 146 = .ok (.lookupswitch 58 #[(61, 48), (64, 26)], 26) := by decide +kernel
theorem dX18_thing_172 : decode cX18_thing 172 = .ok (.aload 4, 2) := dk_25 4 (dk_at dksX18_thing_8 0 rfl rfl)
theorem dX18_thing_174 : decode cX18_thing 174 = .ok (.iload 5, 2) := dk_21 5 (dk_at dksX18_thing_8 2 rfl rfl)
theorem dX18_thing_176 : decode cX18_thing 176 = .ok (.putfield 65, 3) := dk_181 0 65 (dk_at dksX18_thing_8 4 rfl rfl)
theorem dX18_thing_179 : decode cX18_thing 179 = .ok (.aload 4, 2) := dk_25 4 (dk_at dksX18_thing_8 7 rfl rfl)
theorem dX18_thing_181 : decode cX18_thing 181 = .ok (.iconst 1, 1) := dk_4 (dk_at dksX18_thing_8 9 rfl rfl)
theorem dX18_thing_182 : decode cX18_thing 182 = .ok (.putfield 56, 3) := dk_181 0 56 (dk_at dksX18_thing_8 10 rfl rfl)
theorem dX18_thing_185 : decode cX18_thing 185 = .ok (.aload 4, 2) := dk_25 4 (dk_at dksX18_thing_8 13 rfl rfl)
theorem dX18_thing_187 : decode cX18_thing 187 = .ok (.iconst 0, 1) := dk_3 (dk_at dksX18_thing_8 15 rfl rfl)
theorem dX18_thing_188 : decode cX18_thing 188 = .ok (.putfield 68, 3) := dk_181 0 68 (dk_at dksX18_thing_8 16 rfl rfl)
theorem dX18_thing_191 : decode cX18_thing 191 = .ok (.goto 20, 3) := dk_167 0 20 (dk_at dksX18_thing_8 19 rfl rfl)
theorem dX18_thing_194 : decode cX18_thing 194 = .ok (.aload 4, 2) := dk_25 4 (dk_at dksX18_thing_8 22 rfl rfl)
theorem dX18_thing_196 : decode cX18_thing 196 = .ok (.iload 5, 2) := dk_21 5 (dk_at dksX18_thing_9 0 rfl rfl)
theorem dX18_thing_198 : decode cX18_thing 198 = .ok (.putfield 71, 3) := dk_181 0 71 (dk_at dksX18_thing_9 2 rfl rfl)
theorem dX18_thing_201 : decode cX18_thing 201 = .ok (.goto 10, 3) := dk_167 0 10 (dk_at dksX18_thing_9 5 rfl rfl)
theorem dX18_thing_204 : decode cX18_thing 204 = .ok (.aload 4, 2) := dk_25 4 (dk_at dksX18_thing_9 8 rfl rfl)
theorem dX18_thing_206 : decode cX18_thing 206 = .ok (.iload 5, 2) := dk_21 5 (dk_at dksX18_thing_9 10 rfl rfl)
theorem dX18_thing_208 : decode cX18_thing 208 = .ok (.putfield 74, 3) := dk_181 0 74 (dk_at dksX18_thing_9 12 rfl rfl)
theorem dX18_thing_211 : decode cX18_thing 211 = .ok (.return_, 1) := dk_177 (dk_at dksX18_thing_9 15 rfl rfl)
abbrev cX18_number : ByteArray := prog_3_method_2_code
def yX18_number : MethodName := ⟨RX18, "number", "(I)I"⟩
def dkwX18_number_4 : List UInt8 := [153, 0, 14, 28, 27, 164, 0, 9, 42, 6, 29, 182, 0, 31, 28, 172]
abbrev dktX18_number_4 : List UInt8 := dkwX18_number_4 ++ []
def dkwX18_number_3 : List UInt8 := [28, 104, 42, 182, 0, 35, 96, 16, 48, 100, 61, 42, 182, 0, 38, 167, 255, 202, 42, 182, 0, 23]
abbrev dktX18_number_3 : List UInt8 := dkwX18_number_3 ++ dktX18_number_4
def dkwX18_number_2 : List UInt8 := [153, 0, 42, 42, 182, 0, 19, 29, 7, 96, 160, 0, 12, 42, 5, 42, 182, 0, 19, 182, 0, 31, 16, 10]
abbrev dktX18_number_2 : List UInt8 := dkwX18_number_2 ++ dktX18_number_3
def dkwX18_number_1 : List UInt8 := [154, 0, 9, 42, 4, 29, 182, 0, 31, 42, 182, 0, 23, 153, 0, 53, 42, 16, 48, 16, 57, 182, 0, 27]
abbrev dktX18_number_1 : List UInt8 := dkwX18_number_1 ++ dktX18_number_2
def dkwX18_number_0 : List UInt8 := [3, 61, 42, 182, 0, 19, 62, 42, 182, 0, 23, 153, 0, 20, 42, 16, 48, 16, 57, 182, 0, 27]
abbrev dktX18_number_0 : List UInt8 := dkwX18_number_0 ++ dktX18_number_1
theorem dksX18_number_0 : cX18_number.data.toList.drop 0 = dktX18_number_0 := by decide +kernel
theorem dksX18_number_1 : cX18_number.data.toList.drop 22 = dktX18_number_1 := dk_seg dksX18_number_0 22 rfl rfl
theorem dksX18_number_2 : cX18_number.data.toList.drop 46 = dktX18_number_2 := dk_seg dksX18_number_1 24 rfl rfl
theorem dksX18_number_3 : cX18_number.data.toList.drop 70 = dktX18_number_3 := dk_seg dksX18_number_2 24 rfl rfl
theorem dksX18_number_4 : cX18_number.data.toList.drop 92 = dktX18_number_4 := dk_seg dksX18_number_3 22 rfl rfl
theorem dX18_number_0 : decode cX18_number 0 = .ok (.iconst 0, 1) := dk_3 (dk_at dksX18_number_0 0 rfl rfl)
theorem dX18_number_1 : decode cX18_number 1 = .ok (.istore_n 2, 1) := dk_61 (dk_at dksX18_number_0 1 rfl rfl)
theorem dX18_number_2 : decode cX18_number 2 = .ok (.aload_n 0, 1) := dk_42 (dk_at dksX18_number_0 2 rfl rfl)
theorem dX18_number_3 : decode cX18_number 3 = .ok (.invokevirtual 19, 3) := dk_182 0 19 (dk_at dksX18_number_0 3 rfl rfl)
theorem dX18_number_6 : decode cX18_number 6 = .ok (.istore_n 3, 1) := dk_62 (dk_at dksX18_number_0 6 rfl rfl)
theorem dX18_number_7 : decode cX18_number 7 = .ok (.aload_n 0, 1) := dk_42 (dk_at dksX18_number_0 7 rfl rfl)
theorem dX18_number_8 : decode cX18_number 8 = .ok (.invokevirtual 23, 3) := dk_182 0 23 (dk_at dksX18_number_0 8 rfl rfl)
theorem dX18_number_11 : decode cX18_number 11 = .ok (.ifCond .eq 20, 3) := dk_153 0 20 (dk_at dksX18_number_0 11 rfl rfl)
theorem dX18_number_14 : decode cX18_number 14 = .ok (.aload_n 0, 1) := dk_42 (dk_at dksX18_number_0 14 rfl rfl)
theorem dX18_number_15 : decode cX18_number 15 = .ok (.bipush 48, 2) := dk_16 48 (dk_at dksX18_number_0 15 rfl rfl)
theorem dX18_number_17 : decode cX18_number 17 = .ok (.bipush 57, 2) := dk_16 57 (dk_at dksX18_number_0 17 rfl rfl)
theorem dX18_number_19 : decode cX18_number 19 = .ok (.invokevirtual 27, 3) := dk_182 0 27 (dk_at dksX18_number_0 19 rfl rfl)
theorem dX18_number_22 : decode cX18_number 22 = .ok (.ifCond .ne 9, 3) := dk_154 0 9 (dk_at dksX18_number_1 0 rfl rfl)
theorem dX18_number_25 : decode cX18_number 25 = .ok (.aload_n 0, 1) := dk_42 (dk_at dksX18_number_1 3 rfl rfl)
theorem dX18_number_26 : decode cX18_number 26 = .ok (.iconst 1, 1) := dk_4 (dk_at dksX18_number_1 4 rfl rfl)
theorem dX18_number_27 : decode cX18_number 27 = .ok (.iload_n 3, 1) := dk_29 (dk_at dksX18_number_1 5 rfl rfl)
theorem dX18_number_28 : decode cX18_number 28 = .ok (.invokevirtual 31, 3) := dk_182 0 31 (dk_at dksX18_number_1 6 rfl rfl)
theorem dX18_number_31 : decode cX18_number 31 = .ok (.aload_n 0, 1) := dk_42 (dk_at dksX18_number_1 9 rfl rfl)
theorem dX18_number_32 : decode cX18_number 32 = .ok (.invokevirtual 23, 3) := dk_182 0 23 (dk_at dksX18_number_1 10 rfl rfl)
theorem dX18_number_35 : decode cX18_number 35 = .ok (.ifCond .eq 53, 3) := dk_153 0 53 (dk_at dksX18_number_1 13 rfl rfl)
theorem dX18_number_38 : decode cX18_number 38 = .ok (.aload_n 0, 1) := dk_42 (dk_at dksX18_number_1 16 rfl rfl)
theorem dX18_number_39 : decode cX18_number 39 = .ok (.bipush 48, 2) := dk_16 48 (dk_at dksX18_number_1 17 rfl rfl)
theorem dX18_number_41 : decode cX18_number 41 = .ok (.bipush 57, 2) := dk_16 57 (dk_at dksX18_number_1 19 rfl rfl)
theorem dX18_number_43 : decode cX18_number 43 = .ok (.invokevirtual 27, 3) := dk_182 0 27 (dk_at dksX18_number_1 21 rfl rfl)
theorem dX18_number_46 : decode cX18_number 46 = .ok (.ifCond .eq 42, 3) := dk_153 0 42 (dk_at dksX18_number_2 0 rfl rfl)
theorem dX18_number_49 : decode cX18_number 49 = .ok (.aload_n 0, 1) := dk_42 (dk_at dksX18_number_2 3 rfl rfl)
theorem dX18_number_50 : decode cX18_number 50 = .ok (.invokevirtual 19, 3) := dk_182 0 19 (dk_at dksX18_number_2 4 rfl rfl)
theorem dX18_number_53 : decode cX18_number 53 = .ok (.iload_n 3, 1) := dk_29 (dk_at dksX18_number_2 7 rfl rfl)
theorem dX18_number_54 : decode cX18_number 54 = .ok (.iconst 4, 1) := dk_7 (dk_at dksX18_number_2 8 rfl rfl)
theorem dX18_number_55 : decode cX18_number 55 = .ok (.iadd, 1) := dk_96 (dk_at dksX18_number_2 9 rfl rfl)
theorem dX18_number_56 : decode cX18_number 56 = .ok (.if_icmp .ne 12, 3) := dk_160 0 12 (dk_at dksX18_number_2 10 rfl rfl)
theorem dX18_number_59 : decode cX18_number 59 = .ok (.aload_n 0, 1) := dk_42 (dk_at dksX18_number_2 13 rfl rfl)
theorem dX18_number_60 : decode cX18_number 60 = .ok (.iconst 2, 1) := dk_5 (dk_at dksX18_number_2 14 rfl rfl)
theorem dX18_number_61 : decode cX18_number 61 = .ok (.aload_n 0, 1) := dk_42 (dk_at dksX18_number_2 15 rfl rfl)
theorem dX18_number_62 : decode cX18_number 62 = .ok (.invokevirtual 19, 3) := dk_182 0 19 (dk_at dksX18_number_2 16 rfl rfl)
theorem dX18_number_65 : decode cX18_number 65 = .ok (.invokevirtual 31, 3) := dk_182 0 31 (dk_at dksX18_number_2 19 rfl rfl)
theorem dX18_number_68 : decode cX18_number 68 = .ok (.bipush 10, 2) := dk_16 10 (dk_at dksX18_number_2 22 rfl rfl)
theorem dX18_number_70 : decode cX18_number 70 = .ok (.iload_n 2, 1) := dk_28 (dk_at dksX18_number_3 0 rfl rfl)
theorem dX18_number_71 : decode cX18_number 71 = .ok (.imul, 1) := dk_104 (dk_at dksX18_number_3 1 rfl rfl)
theorem dX18_number_72 : decode cX18_number 72 = .ok (.aload_n 0, 1) := dk_42 (dk_at dksX18_number_3 2 rfl rfl)
theorem dX18_number_73 : decode cX18_number 73 = .ok (.invokevirtual 35, 3) := dk_182 0 35 (dk_at dksX18_number_3 3 rfl rfl)
theorem dX18_number_76 : decode cX18_number 76 = .ok (.iadd, 1) := dk_96 (dk_at dksX18_number_3 6 rfl rfl)
theorem dX18_number_77 : decode cX18_number 77 = .ok (.bipush 48, 2) := dk_16 48 (dk_at dksX18_number_3 7 rfl rfl)
theorem dX18_number_79 : decode cX18_number 79 = .ok (.isub, 1) := dk_100 (dk_at dksX18_number_3 9 rfl rfl)
theorem dX18_number_80 : decode cX18_number 80 = .ok (.istore_n 2, 1) := dk_61 (dk_at dksX18_number_3 10 rfl rfl)
theorem dX18_number_81 : decode cX18_number 81 = .ok (.aload_n 0, 1) := dk_42 (dk_at dksX18_number_3 11 rfl rfl)
theorem dX18_number_82 : decode cX18_number 82 = .ok (.invokevirtual 38, 3) := dk_182 0 38 (dk_at dksX18_number_3 12 rfl rfl)
theorem dX18_number_85 : decode cX18_number 85 = .ok (.goto (-54), 3) := dk_167 255 202 (dk_at dksX18_number_3 15 rfl rfl)
theorem dX18_number_88 : decode cX18_number 88 = .ok (.aload_n 0, 1) := dk_42 (dk_at dksX18_number_3 18 rfl rfl)
theorem dX18_number_89 : decode cX18_number 89 = .ok (.invokevirtual 23, 3) := dk_182 0 23 (dk_at dksX18_number_3 19 rfl rfl)
theorem dX18_number_92 : decode cX18_number 92 = .ok (.ifCond .eq 14, 3) := dk_153 0 14 (dk_at dksX18_number_4 0 rfl rfl)
theorem dX18_number_95 : decode cX18_number 95 = .ok (.iload_n 2, 1) := dk_28 (dk_at dksX18_number_4 3 rfl rfl)
theorem dX18_number_96 : decode cX18_number 96 = .ok (.iload_n 1, 1) := dk_27 (dk_at dksX18_number_4 4 rfl rfl)
theorem dX18_number_97 : decode cX18_number 97 = .ok (.if_icmp .le 9, 3) := dk_164 0 9 (dk_at dksX18_number_4 5 rfl rfl)
theorem dX18_number_100 : decode cX18_number 100 = .ok (.aload_n 0, 1) := dk_42 (dk_at dksX18_number_4 8 rfl rfl)
theorem dX18_number_101 : decode cX18_number 101 = .ok (.iconst 3, 1) := dk_6 (dk_at dksX18_number_4 9 rfl rfl)
theorem dX18_number_102 : decode cX18_number 102 = .ok (.iload_n 3, 1) := dk_29 (dk_at dksX18_number_4 10 rfl rfl)
theorem dX18_number_103 : decode cX18_number 103 = .ok (.invokevirtual 31, 3) := dk_182 0 31 (dk_at dksX18_number_4 11 rfl rfl)
theorem dX18_number_106 : decode cX18_number 106 = .ok (.iload_n 2, 1) := dk_28 (dk_at dksX18_number_4 14 rfl rfl)
theorem dX18_number_107 : decode cX18_number 107 = .ok (.ireturn, 1) := dk_172 (dk_at dksX18_number_4 15 rfl rfl)
abbrev cX18_spot : ByteArray := prog_3_method_3_code
def yX18_spot : MethodName := ⟨RX18, "spot", "()I"⟩
def dkwX18_spot_2 : List UInt8 := [96, 172]
abbrev dktX18_spot_2 : List UInt8 := dkwX18_spot_2 ++ []
def dkwX18_spot_1 : List UInt8 := [4, 42, 182, 0, 19, 182, 0, 31, 42, 182, 0, 38, 42, 16, 7, 182, 0, 42, 61, 16, 12, 28, 104, 27]
abbrev dktX18_spot_1 : List UInt8 := dkwX18_spot_1 ++ dktX18_spot_2
def dkwX18_spot_0 : List UInt8 := [42, 16, 11, 182, 0, 42, 60, 42, 182, 0, 23, 153, 0, 21, 42, 182, 0, 35, 16, 44, 159, 0, 12, 42]
abbrev dktX18_spot_0 : List UInt8 := dkwX18_spot_0 ++ dktX18_spot_1
theorem dksX18_spot_0 : cX18_spot.data.toList.drop 0 = dktX18_spot_0 := by decide +kernel
theorem dksX18_spot_1 : cX18_spot.data.toList.drop 24 = dktX18_spot_1 := dk_seg dksX18_spot_0 24 rfl rfl
theorem dksX18_spot_2 : cX18_spot.data.toList.drop 48 = dktX18_spot_2 := dk_seg dksX18_spot_1 24 rfl rfl
theorem dX18_spot_0 : decode cX18_spot 0 = .ok (.aload_n 0, 1) := dk_42 (dk_at dksX18_spot_0 0 rfl rfl)
theorem dX18_spot_1 : decode cX18_spot 1 = .ok (.bipush 11, 2) := dk_16 11 (dk_at dksX18_spot_0 1 rfl rfl)
theorem dX18_spot_3 : decode cX18_spot 3 = .ok (.invokevirtual 42, 3) := dk_182 0 42 (dk_at dksX18_spot_0 3 rfl rfl)
theorem dX18_spot_6 : decode cX18_spot 6 = .ok (.istore_n 1, 1) := dk_60 (dk_at dksX18_spot_0 6 rfl rfl)
theorem dX18_spot_7 : decode cX18_spot 7 = .ok (.aload_n 0, 1) := dk_42 (dk_at dksX18_spot_0 7 rfl rfl)
theorem dX18_spot_8 : decode cX18_spot 8 = .ok (.invokevirtual 23, 3) := dk_182 0 23 (dk_at dksX18_spot_0 8 rfl rfl)
theorem dX18_spot_11 : decode cX18_spot 11 = .ok (.ifCond .eq 21, 3) := dk_153 0 21 (dk_at dksX18_spot_0 11 rfl rfl)
theorem dX18_spot_14 : decode cX18_spot 14 = .ok (.aload_n 0, 1) := dk_42 (dk_at dksX18_spot_0 14 rfl rfl)
theorem dX18_spot_15 : decode cX18_spot 15 = .ok (.invokevirtual 35, 3) := dk_182 0 35 (dk_at dksX18_spot_0 15 rfl rfl)
theorem dX18_spot_18 : decode cX18_spot 18 = .ok (.bipush 44, 2) := dk_16 44 (dk_at dksX18_spot_0 18 rfl rfl)
theorem dX18_spot_20 : decode cX18_spot 20 = .ok (.if_icmp .eq 12, 3) := dk_159 0 12 (dk_at dksX18_spot_0 20 rfl rfl)
theorem dX18_spot_23 : decode cX18_spot 23 = .ok (.aload_n 0, 1) := dk_42 (dk_at dksX18_spot_0 23 rfl rfl)
theorem dX18_spot_24 : decode cX18_spot 24 = .ok (.iconst 1, 1) := dk_4 (dk_at dksX18_spot_1 0 rfl rfl)
theorem dX18_spot_25 : decode cX18_spot 25 = .ok (.aload_n 0, 1) := dk_42 (dk_at dksX18_spot_1 1 rfl rfl)
theorem dX18_spot_26 : decode cX18_spot 26 = .ok (.invokevirtual 19, 3) := dk_182 0 19 (dk_at dksX18_spot_1 2 rfl rfl)
theorem dX18_spot_29 : decode cX18_spot 29 = .ok (.invokevirtual 31, 3) := dk_182 0 31 (dk_at dksX18_spot_1 5 rfl rfl)
theorem dX18_spot_32 : decode cX18_spot 32 = .ok (.aload_n 0, 1) := dk_42 (dk_at dksX18_spot_1 8 rfl rfl)
theorem dX18_spot_33 : decode cX18_spot 33 = .ok (.invokevirtual 38, 3) := dk_182 0 38 (dk_at dksX18_spot_1 9 rfl rfl)
theorem dX18_spot_36 : decode cX18_spot 36 = .ok (.aload_n 0, 1) := dk_42 (dk_at dksX18_spot_1 12 rfl rfl)
theorem dX18_spot_37 : decode cX18_spot 37 = .ok (.bipush 7, 2) := dk_16 7 (dk_at dksX18_spot_1 13 rfl rfl)
theorem dX18_spot_39 : decode cX18_spot 39 = .ok (.invokevirtual 42, 3) := dk_182 0 42 (dk_at dksX18_spot_1 15 rfl rfl)
theorem dX18_spot_42 : decode cX18_spot 42 = .ok (.istore_n 2, 1) := dk_61 (dk_at dksX18_spot_1 18 rfl rfl)
theorem dX18_spot_43 : decode cX18_spot 43 = .ok (.bipush 12, 2) := dk_16 12 (dk_at dksX18_spot_1 19 rfl rfl)
theorem dX18_spot_45 : decode cX18_spot 45 = .ok (.iload_n 2, 1) := dk_28 (dk_at dksX18_spot_1 21 rfl rfl)
theorem dX18_spot_46 : decode cX18_spot 46 = .ok (.imul, 1) := dk_104 (dk_at dksX18_spot_1 22 rfl rfl)
theorem dX18_spot_47 : decode cX18_spot 47 = .ok (.iload_n 1, 1) := dk_27 (dk_at dksX18_spot_1 23 rfl rfl)
theorem dX18_spot_48 : decode cX18_spot 48 = .ok (.iadd, 1) := dk_96 (dk_at dksX18_spot_2 0 rfl rfl)
theorem dX18_spot_49 : decode cX18_spot 49 = .ok (.ireturn, 1) := dk_172 (dk_at dksX18_spot_2 1 rfl rfl)
abbrev cX18_lit : ByteArray := prog_3_method_5_code
def yX18_lit : MethodName := ⟨RX18, "lit", "()V"⟩
def dkwX18_lit_3 : List UInt8 := [180, 0, 3, 180, 0, 46, 28, 6, 182, 0, 84, 177]
abbrev dktX18_lit_3 : List UInt8 := dkwX18_lit_3 ++ []
def dkwX18_lit_2 : List UInt8 := [180, 0, 81, 28, 46, 153, 0, 10, 42, 16, 8, 27, 182, 0, 31, 42, 182, 0, 23, 153, 0, 15, 42]
abbrev dktX18_lit_2 : List UInt8 := dkwX18_lit_2 ++ dktX18_lit_3
def dkwX18_lit_1 : List UInt8 := [28, 46, 4, 160, 0, 27, 42, 180, 0, 15, 28, 51, 154, 0, 18, 42, 180, 0, 3, 180, 0, 46]
abbrev dktX18_lit_1 : List UInt8 := dkwX18_lit_1 ++ dktX18_lit_2
def dkwX18_lit_0 : List UInt8 := [42, 182, 0, 19, 60, 42, 182, 0, 62, 61, 42, 182, 0, 23, 153, 0, 47, 42, 180, 0, 3, 180, 0, 77]
abbrev dktX18_lit_0 : List UInt8 := dkwX18_lit_0 ++ dktX18_lit_1
theorem dksX18_lit_0 : cX18_lit.data.toList.drop 0 = dktX18_lit_0 := by decide +kernel
theorem dksX18_lit_1 : cX18_lit.data.toList.drop 24 = dktX18_lit_1 := dk_seg dksX18_lit_0 24 rfl rfl
theorem dksX18_lit_2 : cX18_lit.data.toList.drop 46 = dktX18_lit_2 := dk_seg dksX18_lit_1 22 rfl rfl
theorem dksX18_lit_3 : cX18_lit.data.toList.drop 69 = dktX18_lit_3 := dk_seg dksX18_lit_2 23 rfl rfl
theorem dX18_lit_0 : decode cX18_lit 0 = .ok (.aload_n 0, 1) := dk_42 (dk_at dksX18_lit_0 0 rfl rfl)
theorem dX18_lit_1 : decode cX18_lit 1 = .ok (.invokevirtual 19, 3) := dk_182 0 19 (dk_at dksX18_lit_0 1 rfl rfl)
theorem dX18_lit_4 : decode cX18_lit 4 = .ok (.istore_n 1, 1) := dk_60 (dk_at dksX18_lit_0 4 rfl rfl)
theorem dX18_lit_5 : decode cX18_lit 5 = .ok (.aload_n 0, 1) := dk_42 (dk_at dksX18_lit_0 5 rfl rfl)
theorem dX18_lit_6 : decode cX18_lit 6 = .ok (.invokevirtual 62, 3) := dk_182 0 62 (dk_at dksX18_lit_0 6 rfl rfl)
theorem dX18_lit_9 : decode cX18_lit 9 = .ok (.istore_n 2, 1) := dk_61 (dk_at dksX18_lit_0 9 rfl rfl)
theorem dX18_lit_10 : decode cX18_lit 10 = .ok (.aload_n 0, 1) := dk_42 (dk_at dksX18_lit_0 10 rfl rfl)
theorem dX18_lit_11 : decode cX18_lit 11 = .ok (.invokevirtual 23, 3) := dk_182 0 23 (dk_at dksX18_lit_0 11 rfl rfl)
theorem dX18_lit_14 : decode cX18_lit 14 = .ok (.ifCond .eq 47, 3) := dk_153 0 47 (dk_at dksX18_lit_0 14 rfl rfl)
theorem dX18_lit_17 : decode cX18_lit 17 = .ok (.aload_n 0, 1) := dk_42 (dk_at dksX18_lit_0 17 rfl rfl)
theorem dX18_lit_18 : decode cX18_lit 18 = .ok (.getfield 3, 3) := dk_180 0 3 (dk_at dksX18_lit_0 18 rfl rfl)
theorem dX18_lit_21 : decode cX18_lit 21 = .ok (.getfield 77, 3) := dk_180 0 77 (dk_at dksX18_lit_0 21 rfl rfl)
theorem dX18_lit_24 : decode cX18_lit 24 = .ok (.iload_n 2, 1) := dk_28 (dk_at dksX18_lit_1 0 rfl rfl)
theorem dX18_lit_25 : decode cX18_lit 25 = .ok (.iaload, 1) := dk_46 (dk_at dksX18_lit_1 1 rfl rfl)
theorem dX18_lit_26 : decode cX18_lit 26 = .ok (.iconst 1, 1) := dk_4 (dk_at dksX18_lit_1 2 rfl rfl)
theorem dX18_lit_27 : decode cX18_lit 27 = .ok (.if_icmp .ne 27, 3) := dk_160 0 27 (dk_at dksX18_lit_1 3 rfl rfl)
theorem dX18_lit_30 : decode cX18_lit 30 = .ok (.aload_n 0, 1) := dk_42 (dk_at dksX18_lit_1 6 rfl rfl)
theorem dX18_lit_31 : decode cX18_lit 31 = .ok (.getfield 15, 3) := dk_180 0 15 (dk_at dksX18_lit_1 7 rfl rfl)
theorem dX18_lit_34 : decode cX18_lit 34 = .ok (.iload_n 2, 1) := dk_28 (dk_at dksX18_lit_1 10 rfl rfl)
theorem dX18_lit_35 : decode cX18_lit 35 = .ok (.baload, 1) := dk_51 (dk_at dksX18_lit_1 11 rfl rfl)
theorem dX18_lit_36 : decode cX18_lit 36 = .ok (.ifCond .ne 18, 3) := dk_154 0 18 (dk_at dksX18_lit_1 12 rfl rfl)
theorem dX18_lit_39 : decode cX18_lit 39 = .ok (.aload_n 0, 1) := dk_42 (dk_at dksX18_lit_1 15 rfl rfl)
theorem dX18_lit_40 : decode cX18_lit 40 = .ok (.getfield 3, 3) := dk_180 0 3 (dk_at dksX18_lit_1 16 rfl rfl)
theorem dX18_lit_43 : decode cX18_lit 43 = .ok (.getfield 46, 3) := dk_180 0 46 (dk_at dksX18_lit_1 19 rfl rfl)
theorem dX18_lit_46 : decode cX18_lit 46 = .ok (.getfield 81, 3) := dk_180 0 81 (dk_at dksX18_lit_2 0 rfl rfl)
theorem dX18_lit_49 : decode cX18_lit 49 = .ok (.iload_n 2, 1) := dk_28 (dk_at dksX18_lit_2 3 rfl rfl)
theorem dX18_lit_50 : decode cX18_lit 50 = .ok (.iaload, 1) := dk_46 (dk_at dksX18_lit_2 4 rfl rfl)
theorem dX18_lit_51 : decode cX18_lit 51 = .ok (.ifCond .eq 10, 3) := dk_153 0 10 (dk_at dksX18_lit_2 5 rfl rfl)
theorem dX18_lit_54 : decode cX18_lit 54 = .ok (.aload_n 0, 1) := dk_42 (dk_at dksX18_lit_2 8 rfl rfl)
theorem dX18_lit_55 : decode cX18_lit 55 = .ok (.bipush 8, 2) := dk_16 8 (dk_at dksX18_lit_2 9 rfl rfl)
theorem dX18_lit_57 : decode cX18_lit 57 = .ok (.iload_n 1, 1) := dk_27 (dk_at dksX18_lit_2 11 rfl rfl)
theorem dX18_lit_58 : decode cX18_lit 58 = .ok (.invokevirtual 31, 3) := dk_182 0 31 (dk_at dksX18_lit_2 12 rfl rfl)
theorem dX18_lit_61 : decode cX18_lit 61 = .ok (.aload_n 0, 1) := dk_42 (dk_at dksX18_lit_2 15 rfl rfl)
theorem dX18_lit_62 : decode cX18_lit 62 = .ok (.invokevirtual 23, 3) := dk_182 0 23 (dk_at dksX18_lit_2 16 rfl rfl)
theorem dX18_lit_65 : decode cX18_lit 65 = .ok (.ifCond .eq 15, 3) := dk_153 0 15 (dk_at dksX18_lit_2 19 rfl rfl)
theorem dX18_lit_68 : decode cX18_lit 68 = .ok (.aload_n 0, 1) := dk_42 (dk_at dksX18_lit_2 22 rfl rfl)
theorem dX18_lit_69 : decode cX18_lit 69 = .ok (.getfield 3, 3) := dk_180 0 3 (dk_at dksX18_lit_3 0 rfl rfl)
theorem dX18_lit_72 : decode cX18_lit 72 = .ok (.getfield 46, 3) := dk_180 0 46 (dk_at dksX18_lit_3 3 rfl rfl)
theorem dX18_lit_75 : decode cX18_lit 75 = .ok (.iload_n 2, 1) := dk_28 (dk_at dksX18_lit_3 6 rfl rfl)
theorem dX18_lit_76 : decode cX18_lit 76 = .ok (.iconst 3, 1) := dk_6 (dk_at dksX18_lit_3 7 rfl rfl)
theorem dX18_lit_77 : decode cX18_lit 77 = .ok (.invokevirtual 84, 3) := dk_182 0 84 (dk_at dksX18_lit_3 8 rfl rfl)
theorem dX18_lit_80 : decode cX18_lit 80 = .ok (.return_, 1) := dk_177 (dk_at dksX18_lit_3 11 rfl rfl)
abbrev cX18_wet : ByteArray := prog_3_method_6_code
def yX18_wet : MethodName := ⟨RX18, "wet", "()V"⟩
def dkwX18_wet_1 : List UInt8 := [180, 0, 46, 27, 182, 0, 87, 177]
abbrev dktX18_wet_1 : List UInt8 := dkwX18_wet_1 ++ []
def dkwX18_wet_0 : List UInt8 := [42, 182, 0, 62, 60, 42, 182, 0, 23, 154, 0, 4, 177, 42, 180, 0, 15, 27, 4, 84, 42, 180, 0, 3]
abbrev dktX18_wet_0 : List UInt8 := dkwX18_wet_0 ++ dktX18_wet_1
theorem dksX18_wet_0 : cX18_wet.data.toList.drop 0 = dktX18_wet_0 := by decide +kernel
theorem dksX18_wet_1 : cX18_wet.data.toList.drop 24 = dktX18_wet_1 := dk_seg dksX18_wet_0 24 rfl rfl
theorem dX18_wet_0 : decode cX18_wet 0 = .ok (.aload_n 0, 1) := dk_42 (dk_at dksX18_wet_0 0 rfl rfl)
theorem dX18_wet_1 : decode cX18_wet 1 = .ok (.invokevirtual 62, 3) := dk_182 0 62 (dk_at dksX18_wet_0 1 rfl rfl)
theorem dX18_wet_4 : decode cX18_wet 4 = .ok (.istore_n 1, 1) := dk_60 (dk_at dksX18_wet_0 4 rfl rfl)
theorem dX18_wet_5 : decode cX18_wet 5 = .ok (.aload_n 0, 1) := dk_42 (dk_at dksX18_wet_0 5 rfl rfl)
theorem dX18_wet_6 : decode cX18_wet 6 = .ok (.invokevirtual 23, 3) := dk_182 0 23 (dk_at dksX18_wet_0 6 rfl rfl)
theorem dX18_wet_9 : decode cX18_wet 9 = .ok (.ifCond .ne 4, 3) := dk_154 0 4 (dk_at dksX18_wet_0 9 rfl rfl)
theorem dX18_wet_12 : decode cX18_wet 12 = .ok (.return_, 1) := dk_177 (dk_at dksX18_wet_0 12 rfl rfl)
theorem dX18_wet_13 : decode cX18_wet 13 = .ok (.aload_n 0, 1) := dk_42 (dk_at dksX18_wet_0 13 rfl rfl)
theorem dX18_wet_14 : decode cX18_wet 14 = .ok (.getfield 15, 3) := dk_180 0 15 (dk_at dksX18_wet_0 14 rfl rfl)
theorem dX18_wet_17 : decode cX18_wet 17 = .ok (.iload_n 1, 1) := dk_27 (dk_at dksX18_wet_0 17 rfl rfl)
theorem dX18_wet_18 : decode cX18_wet 18 = .ok (.iconst 1, 1) := dk_4 (dk_at dksX18_wet_0 18 rfl rfl)
theorem dX18_wet_19 : decode cX18_wet 19 = .ok (.bastore, 1) := dk_84 (dk_at dksX18_wet_0 19 rfl rfl)
theorem dX18_wet_20 : decode cX18_wet 20 = .ok (.aload_n 0, 1) := dk_42 (dk_at dksX18_wet_0 20 rfl rfl)
theorem dX18_wet_21 : decode cX18_wet 21 = .ok (.getfield 3, 3) := dk_180 0 3 (dk_at dksX18_wet_0 21 rfl rfl)
theorem dX18_wet_24 : decode cX18_wet 24 = .ok (.getfield 46, 3) := dk_180 0 46 (dk_at dksX18_wet_1 0 rfl rfl)
theorem dX18_wet_27 : decode cX18_wet 27 = .ok (.iload_n 1, 1) := dk_27 (dk_at dksX18_wet_1 3 rfl rfl)
theorem dX18_wet_28 : decode cX18_wet 28 = .ok (.invokevirtual 87, 3) := dk_182 0 87 (dk_at dksX18_wet_1 4 rfl rfl)
theorem dX18_wet_31 : decode cX18_wet 31 = .ok (.return_, 1) := dk_177 (dk_at dksX18_wet_1 7 rfl rfl)
theorem q138 : (Jvm.Cond.initialized "InsuredFlame$Clerk") ∈ lw_all := lw_g (lw_at lw_m1 25 rfl) rfl
theorem q205 : (Jvm.Cond.fieldLinkNest "InsuredFlame$Clerk" (65 : Nat) "InsuredFlame$Thing" "place" "I" "InsuredFlame") ∈ lw_tbl := lw_at lw_m1 92 rfl
theorem q208 : (Jvm.Cond.fieldLinkNest "InsuredFlame$Clerk" (71 : Nat) "InsuredFlame$Thing" "value" "I" "InsuredFlame") ∈ lw_tbl := lw_at lw_m1 95 rfl
theorem q212 : (Jvm.Cond.fieldLinkNest "InsuredFlame$Clerk" (74 : Nat) "InsuredFlame$Thing" "sum" "I" "InsuredFlame") ∈ lw_tbl := lw_at lw_m1 99 rfl
theorem q216 : (Jvm.Cond.fieldLinkNest "InsuredFlame$Clerk" (56 : Nat) "InsuredFlame$Thing" "isTold" "Z" "InsuredFlame") ∈ lw_tbl := lw_at lw_m1 103 rfl
theorem q220 : (Jvm.Cond.fieldLinkNest "InsuredFlame$Clerk" (68 : Nat) "InsuredFlame$Thing" "isGone" "Z" "InsuredFlame") ∈ lw_tbl := lw_at lw_m1 107 rfl
theorem q236 : (Jvm.Cond.fieldLinkNest "InsuredFlame$Clerk" (81 : Nat) "InsuredFlame$Fire" "status" "[I" "InsuredFlame") ∈ lw_tbl := lw_at lw_m1 123 rfl
theorem q242 : (Jvm.Cond.fieldLinkNest "InsuredFlame$Clerk" (50 : Nat) "InsuredFlame$Fire" "things" "[LInsuredFlame$Thing;" "InsuredFlame") ∈ lw_tbl := lw_at lw_m1 129 rfl
theorem q245 : (Jvm.Cond.fieldLinkNest "InsuredFlame$Clerk" (103 : Nat) "InsuredFlame$Fire" "wind" "I" "InsuredFlame") ∈ lw_tbl := lw_at lw_m1 132 rfl
theorem q301 : (Jvm.Cond.fieldLinkNest "InsuredFlame$Clerk" (77 : Nat) "InsuredFlame" "kinds" "[I" "InsuredFlame") ∈ lw_tbl := lw_at lw_m1 188 rfl
theorem q306 : (Jvm.Cond.fieldLinkNest "InsuredFlame$Clerk" (46 : Nat) "InsuredFlame" "then" "LInsuredFlame$Fire;" "InsuredFlame") ∈ lw_tbl := lw_at lw_m1 193 rfl
theorem q698 : (Jvm.Cond.selects "InsuredFlame$Clerk" ({ cls := "InsuredFlame$Scribe", name := "here", desc := "()I" } : Jvm.MethodName) ({ cls := "InsuredFlame$Scribe", name := "here", desc := "()I" } : Jvm.MethodName)) ∈ lw_all := lw_g (lw_at lw_m3 105 rfl) rfl
theorem q769 : (Jvm.Cond.instantiable "InsuredFlame$Clerk" (8 : Nat)) ∈ lw_all := lw_g (lw_at lw_m3 176 rfl) rfl
theorem q771 : (Jvm.Cond.instanceMethod ({ cls := "InsuredFlame$Clerk", name := "<init>", desc := "(LInsuredFlame;I)V" } : Jvm.MethodName)) ∈ lw_all := lw_g (lw_at lw_m3 178 rfl) rfl
theorem q772 : (Jvm.Cond.code ({ cls := "InsuredFlame$Clerk", name := "<init>", desc := "(LInsuredFlame;I)V" } : Jvm.MethodName) prog_3_method_1_code (3 : Nat) (Option.none : Option Jvm.ClassFile.FieldType)) ∈ lw_all := lw_g (lw_at lw_m3 179 rfl) rfl
theorem q773 : (Jvm.Cond.methodLink "InsuredFlame$Clerk" (9 : Nat) ({ cls := "InsuredFlame$Scribe", name := "<init>", desc := "(LInsuredFlame;I)V" } : Jvm.MethodName)) ∈ lw_all := lw_g (lw_at lw_m3 180 rfl) rfl
theorem q774 : (Jvm.Cond.fieldLink "InsuredFlame$Clerk" (15 : Nat) "InsuredFlame$Clerk" "watered" "[Z") ∈ lw_all := lw_g (lw_at lw_m3 181 rfl) rfl
theorem q776 : (Jvm.Cond.fieldLink "InsuredFlame$Clerk" (91 : Nat) "InsuredFlame$Clerk" "lines" "I") ∈ lw_all := lw_g (lw_at lw_m3 183 rfl) rfl
theorem q777 : (Jvm.Cond.fieldLink "InsuredFlame$Clerk" (3 : Nat) "InsuredFlame$Clerk" "this$0" "LInsuredFlame;") ∈ lw_all := lw_g (lw_at lw_m3 184 rfl) rfl
theorem q778 : (Jvm.Cond.laysFinal "InsuredFlame$Clerk" "InsuredFlame$Clerk" "watered" "[Z") ∈ lw_all := lw_g (lw_at lw_m3 185 rfl) rfl
theorem q779 : (Jvm.Cond.soleField "InsuredFlame$Clerk" "watered") ∈ lw_all := lw_g (lw_at lw_m3 186 rfl) rfl
theorem q780 : (Jvm.Cond.lays "InsuredFlame$Clerk" "InsuredFlame$Clerk" "lines" "I") ∈ lw_all := lw_g (lw_at lw_m3 187 rfl) rfl
theorem q781 : (Jvm.Cond.soleField "InsuredFlame$Clerk" "lines") ∈ lw_all := lw_g (lw_at lw_m3 188 rfl) rfl
theorem q782 : (Jvm.Cond.laysFinal "InsuredFlame$Clerk" "InsuredFlame$Clerk" "this$0" "LInsuredFlame;") ∈ lw_all := lw_g (lw_at lw_m3 189 rfl) rfl
theorem q783 : (Jvm.Cond.soleField "InsuredFlame$Clerk" "this$0") ∈ lw_all := lw_g (lw_at lw_m3 190 rfl) rfl
theorem q784 : (Jvm.Cond.laysFinal "InsuredFlame$Clerk" "InsuredFlame$Scribe" "n" "I") ∈ lw_all := lw_g (lw_at lw_m3 191 rfl) rfl
theorem q785 : (Jvm.Cond.lays "InsuredFlame$Clerk" "InsuredFlame$Scribe" "at" "I") ∈ lw_all := lw_g (lw_at lw_m3 192 rfl) rfl
theorem q786 : (Jvm.Cond.lays "InsuredFlame$Clerk" "InsuredFlame$Scribe" "fault" "I") ∈ lw_all := lw_g (lw_at lw_m3 193 rfl) rfl
theorem q787 : (Jvm.Cond.lays "InsuredFlame$Clerk" "InsuredFlame$Scribe" "place" "I") ∈ lw_all := lw_g (lw_at lw_m3 194 rfl) rfl
theorem q788 : (Jvm.Cond.laysFinal "InsuredFlame$Clerk" "InsuredFlame$Scribe" "this$0" "LInsuredFlame;") ∈ lw_all := lw_g (lw_at lw_m3 195 rfl) rfl
theorem q789 : (Jvm.Cond.superclass "InsuredFlame$Clerk" "InsuredFlame$Scribe") ∈ lw_all := lw_g (lw_at lw_m3 196 rfl) rfl
theorem q791 : (Jvm.Cond.instanceMethod ({ cls := "InsuredFlame$Clerk", name := "read", desc := "()I" } : Jvm.MethodName)) ∈ lw_all := lw_g (lw_at lw_m3 198 rfl) rfl
theorem q792 : (Jvm.Cond.selects "InsuredFlame$Clerk" ({ cls := "InsuredFlame$Clerk", name := "read", desc := "()I" } : Jvm.MethodName) ({ cls := "InsuredFlame$Clerk", name := "read", desc := "()I" } : Jvm.MethodName)) ∈ lw_all := lw_g (lw_at lw_m3 199 rfl) rfl
theorem q793 : (Jvm.Cond.code ({ cls := "InsuredFlame$Clerk", name := "read", desc := "()I" } : Jvm.MethodName) prog_3_method_8_code (1 : Nat) (Option.some Jvm.ClassFile.FieldType.int)) ∈ lw_all := lw_g (lw_at lw_m3 200 rfl) rfl
theorem q794 : (Jvm.Cond.methodLink "InsuredFlame$Clerk" (106 : Nat) ({ cls := "InsuredFlame$Clerk", name := "line", desc := "()V" } : Jvm.MethodName)) ∈ lw_all := lw_g (lw_at lw_m3 201 rfl) rfl
theorem q795 : (Jvm.Cond.privateMethod ({ cls := "InsuredFlame$Clerk", name := "line", desc := "()V" } : Jvm.MethodName)) ∈ lw_tbl := lw_at lw_m3 202 rfl
theorem q796 : (Jvm.Cond.instanceMethod ({ cls := "InsuredFlame$Clerk", name := "line", desc := "()V" } : Jvm.MethodName)) ∈ lw_all := lw_g (lw_at lw_m3 203 rfl) rfl
theorem q797 : (Jvm.Cond.code ({ cls := "InsuredFlame$Clerk", name := "line", desc := "()V" } : Jvm.MethodName) prog_3_method_7_code (4 : Nat) (Option.none : Option Jvm.ClassFile.FieldType)) ∈ lw_all := lw_g (lw_at lw_m3 204 rfl) rfl
theorem q798 : (Jvm.Cond.methodLink "InsuredFlame$Clerk" (19 : Nat) ({ cls := "InsuredFlame$Clerk", name := "place", desc := "()I" } : Jvm.MethodName)) ∈ lw_all := lw_g (lw_at lw_m3 205 rfl) rfl
theorem q799 : (Jvm.Cond.sameMethod "InsuredFlame$Clerk" "InsuredFlame$Scribe" "place" "()I") ∈ lw_all := lw_g (lw_at lw_m3 206 rfl) rfl
theorem q800 : (Jvm.Cond.selects "InsuredFlame$Clerk" ({ cls := "InsuredFlame$Clerk", name := "place", desc := "()I" } : Jvm.MethodName) ({ cls := "InsuredFlame$Scribe", name := "place", desc := "()I" } : Jvm.MethodName)) ∈ lw_all := lw_g (lw_at lw_m3 207 rfl) rfl
theorem q801 : (Jvm.Cond.methodLink "InsuredFlame$Clerk" (35 : Nat) ({ cls := "InsuredFlame$Clerk", name := "here", desc := "()I" } : Jvm.MethodName)) ∈ lw_all := lw_g (lw_at lw_m3 208 rfl) rfl
theorem q802 : (Jvm.Cond.sameMethod "InsuredFlame$Clerk" "InsuredFlame$Scribe" "here" "()I") ∈ lw_all := lw_g (lw_at lw_m3 209 rfl) rfl
theorem q803 : (Jvm.Cond.selects "InsuredFlame$Clerk" ({ cls := "InsuredFlame$Clerk", name := "here", desc := "()I" } : Jvm.MethodName) ({ cls := "InsuredFlame$Scribe", name := "here", desc := "()I" } : Jvm.MethodName)) ∈ lw_all := lw_g (lw_at lw_m3 210 rfl) rfl
theorem q804 : (Jvm.Cond.methodLink "InsuredFlame$Clerk" (27 : Nat) ({ cls := "InsuredFlame$Clerk", name := "sees", desc := "(II)Z" } : Jvm.MethodName)) ∈ lw_all := lw_g (lw_at lw_m3 211 rfl) rfl
theorem q805 : (Jvm.Cond.sameMethod "InsuredFlame$Clerk" "InsuredFlame$Scribe" "sees" "(II)Z") ∈ lw_all := lw_g (lw_at lw_m3 212 rfl) rfl
theorem q806 : (Jvm.Cond.selects "InsuredFlame$Clerk" ({ cls := "InsuredFlame$Clerk", name := "sees", desc := "(II)Z" } : Jvm.MethodName) ({ cls := "InsuredFlame$Scribe", name := "sees", desc := "(II)Z" } : Jvm.MethodName)) ∈ lw_all := lw_g (lw_at lw_m3 213 rfl) rfl
theorem q807 : (Jvm.Cond.methodLink "InsuredFlame$Clerk" (31 : Nat) ({ cls := "InsuredFlame$Clerk", name := "bad", desc := "(II)V" } : Jvm.MethodName)) ∈ lw_all := lw_g (lw_at lw_m3 214 rfl) rfl
theorem q808 : (Jvm.Cond.sameMethod "InsuredFlame$Clerk" "InsuredFlame$Scribe" "bad" "(II)V") ∈ lw_all := lw_g (lw_at lw_m3 215 rfl) rfl
theorem q809 : (Jvm.Cond.selects "InsuredFlame$Clerk" ({ cls := "InsuredFlame$Clerk", name := "bad", desc := "(II)V" } : Jvm.MethodName) ({ cls := "InsuredFlame$Scribe", name := "bad", desc := "(II)V" } : Jvm.MethodName)) ∈ lw_all := lw_g (lw_at lw_m3 216 rfl) rfl
theorem q810 : (Jvm.Cond.methodLink "InsuredFlame$Clerk" (23 : Nat) ({ cls := "InsuredFlame$Clerk", name := "isGood", desc := "()Z" } : Jvm.MethodName)) ∈ lw_all := lw_g (lw_at lw_m3 217 rfl) rfl
theorem q811 : (Jvm.Cond.sameMethod "InsuredFlame$Clerk" "InsuredFlame$Scribe" "isGood" "()Z") ∈ lw_all := lw_g (lw_at lw_m3 218 rfl) rfl
theorem q812 : (Jvm.Cond.selects "InsuredFlame$Clerk" ({ cls := "InsuredFlame$Clerk", name := "isGood", desc := "()Z" } : Jvm.MethodName) ({ cls := "InsuredFlame$Scribe", name := "isGood", desc := "()Z" } : Jvm.MethodName)) ∈ lw_all := lw_g (lw_at lw_m3 219 rfl) rfl
theorem q813 : (Jvm.Cond.methodLink "InsuredFlame$Clerk" (94 : Nat) ({ cls := "InsuredFlame$Clerk", name := "thing", desc := "()V" } : Jvm.MethodName)) ∈ lw_all := lw_g (lw_at lw_m3 220 rfl) rfl
theorem q814 : (Jvm.Cond.privateMethod ({ cls := "InsuredFlame$Clerk", name := "thing", desc := "()V" } : Jvm.MethodName)) ∈ lw_tbl := lw_at lw_m3 221 rfl
theorem q815 : (Jvm.Cond.instanceMethod ({ cls := "InsuredFlame$Clerk", name := "thing", desc := "()V" } : Jvm.MethodName)) ∈ lw_all := lw_g (lw_at lw_m3 222 rfl) rfl
theorem q816 : (Jvm.Cond.code ({ cls := "InsuredFlame$Clerk", name := "thing", desc := "()V" } : Jvm.MethodName) prog_3_method_4_code (6 : Nat) (Option.none : Option Jvm.ClassFile.FieldType)) ∈ lw_all := lw_g (lw_at lw_m3 223 rfl) rfl
theorem q817 : (Jvm.Cond.methodLink "InsuredFlame$Clerk" (42 : Nat) ({ cls := "InsuredFlame$Clerk", name := "number", desc := "(I)I" } : Jvm.MethodName)) ∈ lw_all := lw_g (lw_at lw_m3 224 rfl) rfl
theorem q818 : (Jvm.Cond.privateMethod ({ cls := "InsuredFlame$Clerk", name := "number", desc := "(I)I" } : Jvm.MethodName)) ∈ lw_tbl := lw_at lw_m3 225 rfl
theorem q819 : (Jvm.Cond.instanceMethod ({ cls := "InsuredFlame$Clerk", name := "number", desc := "(I)I" } : Jvm.MethodName)) ∈ lw_all := lw_g (lw_at lw_m3 226 rfl) rfl
theorem q820 : (Jvm.Cond.code ({ cls := "InsuredFlame$Clerk", name := "number", desc := "(I)I" } : Jvm.MethodName) prog_3_method_2_code (4 : Nat) (Option.some Jvm.ClassFile.FieldType.int)) ∈ lw_all := lw_g (lw_at lw_m3 227 rfl) rfl
theorem q821 : (Jvm.Cond.methodLink "InsuredFlame$Clerk" (38 : Nat) ({ cls := "InsuredFlame$Clerk", name := "goes", desc := "()V" } : Jvm.MethodName)) ∈ lw_all := lw_g (lw_at lw_m3 228 rfl) rfl
theorem q822 : (Jvm.Cond.sameMethod "InsuredFlame$Clerk" "InsuredFlame$Scribe" "goes" "()V") ∈ lw_all := lw_g (lw_at lw_m3 229 rfl) rfl
theorem q823 : (Jvm.Cond.selects "InsuredFlame$Clerk" ({ cls := "InsuredFlame$Clerk", name := "goes", desc := "()V" } : Jvm.MethodName) ({ cls := "InsuredFlame$Scribe", name := "goes", desc := "()V" } : Jvm.MethodName)) ∈ lw_all := lw_g (lw_at lw_m3 230 rfl) rfl
theorem q824 : (Jvm.Cond.methodLink "InsuredFlame$Clerk" (62 : Nat) ({ cls := "InsuredFlame$Clerk", name := "spot", desc := "()I" } : Jvm.MethodName)) ∈ lw_all := lw_g (lw_at lw_m3 231 rfl) rfl
theorem q825 : (Jvm.Cond.privateMethod ({ cls := "InsuredFlame$Clerk", name := "spot", desc := "()I" } : Jvm.MethodName)) ∈ lw_tbl := lw_at lw_m3 232 rfl
theorem q826 : (Jvm.Cond.instanceMethod ({ cls := "InsuredFlame$Clerk", name := "spot", desc := "()I" } : Jvm.MethodName)) ∈ lw_all := lw_g (lw_at lw_m3 233 rfl) rfl
theorem q827 : (Jvm.Cond.code ({ cls := "InsuredFlame$Clerk", name := "spot", desc := "()I" } : Jvm.MethodName) prog_3_method_3_code (3 : Nat) (Option.some Jvm.ClassFile.FieldType.int)) ∈ lw_all := lw_g (lw_at lw_m3 234 rfl) rfl
theorem q828 : (Jvm.Cond.methodLink "InsuredFlame$Clerk" (97 : Nat) ({ cls := "InsuredFlame$Clerk", name := "lit", desc := "()V" } : Jvm.MethodName)) ∈ lw_all := lw_g (lw_at lw_m3 235 rfl) rfl
theorem q829 : (Jvm.Cond.privateMethod ({ cls := "InsuredFlame$Clerk", name := "lit", desc := "()V" } : Jvm.MethodName)) ∈ lw_tbl := lw_at lw_m3 236 rfl
theorem q830 : (Jvm.Cond.instanceMethod ({ cls := "InsuredFlame$Clerk", name := "lit", desc := "()V" } : Jvm.MethodName)) ∈ lw_all := lw_g (lw_at lw_m3 237 rfl) rfl
theorem q831 : (Jvm.Cond.code ({ cls := "InsuredFlame$Clerk", name := "lit", desc := "()V" } : Jvm.MethodName) prog_3_method_5_code (3 : Nat) (Option.none : Option Jvm.ClassFile.FieldType)) ∈ lw_all := lw_g (lw_at lw_m3 238 rfl) rfl
theorem q832 : (Jvm.Cond.methodLink "InsuredFlame$Clerk" (84 : Nat) ({ cls := "InsuredFlame$Fire", name := "lights", desc := "(II)V" } : Jvm.MethodName)) ∈ lw_all := lw_g (lw_at lw_m3 239 rfl) rfl
theorem q836 : (Jvm.Cond.methodLink "InsuredFlame$Clerk" (100 : Nat) ({ cls := "InsuredFlame$Clerk", name := "wet", desc := "()V" } : Jvm.MethodName)) ∈ lw_all := lw_g (lw_at lw_m4 3 rfl) rfl
theorem q837 : (Jvm.Cond.privateMethod ({ cls := "InsuredFlame$Clerk", name := "wet", desc := "()V" } : Jvm.MethodName)) ∈ lw_tbl := lw_at lw_m4 4 rfl
theorem q838 : (Jvm.Cond.instanceMethod ({ cls := "InsuredFlame$Clerk", name := "wet", desc := "()V" } : Jvm.MethodName)) ∈ lw_all := lw_g (lw_at lw_m4 5 rfl) rfl
theorem q839 : (Jvm.Cond.code ({ cls := "InsuredFlame$Clerk", name := "wet", desc := "()V" } : Jvm.MethodName) prog_3_method_6_code (2 : Nat) (Option.none : Option Jvm.ClassFile.FieldType)) ∈ lw_all := lw_g (lw_at lw_m4 6 rfl) rfl
theorem q840 : (Jvm.Cond.methodLink "InsuredFlame$Clerk" (87 : Nat) ({ cls := "InsuredFlame$Fire", name := "waters", desc := "(I)V" } : Jvm.MethodName)) ∈ lw_all := lw_g (lw_at lw_m4 7 rfl) rfl
theorem q844 : (Jvm.Cond.methodLink "InsuredFlame$Clerk" (109 : Nat) ({ cls := "InsuredFlame$Clerk", name := "isEnd", desc := "()Z" } : Jvm.MethodName)) ∈ lw_all := lw_g (lw_at lw_m4 11 rfl) rfl
theorem q845 : (Jvm.Cond.sameMethod "InsuredFlame$Clerk" "InsuredFlame$Scribe" "isEnd" "()Z") ∈ lw_all := lw_g (lw_at lw_m4 12 rfl) rfl
theorem q846 : (Jvm.Cond.selects "InsuredFlame$Clerk" ({ cls := "InsuredFlame$Clerk", name := "isEnd", desc := "()Z" } : Jvm.MethodName) ({ cls := "InsuredFlame$Scribe", name := "isEnd", desc := "()Z" } : Jvm.MethodName)) ∈ lw_all := lw_g (lw_at lw_m4 13 rfl) rfl
theorem q847 : (Jvm.Cond.methodLink "InsuredFlame$Clerk" (112 : Nat) ({ cls := "InsuredFlame$Clerk", name := "answer", desc := "(I)I" } : Jvm.MethodName)) ∈ lw_all := lw_g (lw_at lw_m4 14 rfl) rfl
theorem q848 : (Jvm.Cond.sameMethod "InsuredFlame$Clerk" "InsuredFlame$Scribe" "answer" "(I)I") ∈ lw_all := lw_g (lw_at lw_m4 15 rfl) rfl
theorem q849 : (Jvm.Cond.selects "InsuredFlame$Clerk" ({ cls := "InsuredFlame$Clerk", name := "answer", desc := "(I)I" } : Jvm.MethodName) ({ cls := "InsuredFlame$Scribe", name := "answer", desc := "(I)I" } : Jvm.MethodName)) ∈ lw_all := lw_g (lw_at lw_m4 16 rfl) rfl
theorem q1739 : (Jvm.Cond.selects "InsuredFlame$Clerk" ({ cls := "InsuredFlame$Scribe", name := "isGood", desc := "()Z" } : Jvm.MethodName) ({ cls := "InsuredFlame$Scribe", name := "isGood", desc := "()Z" } : Jvm.MethodName)) ∈ lw_all := lw_g (lw_at lw_m7 186 rfl) rfl
theorem in_X18 : ∀ w ∈ wsX180, w ∈ lw_all := lw_in wsX180 [784, 785, 786, 787, 788, 778, 780, 782] (by decide +kernel) (by decide +kernel)
