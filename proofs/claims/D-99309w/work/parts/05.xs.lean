/-! InsuredFlame$Asked -/
set_option maxRecDepth 100000
def RX1 : String := "InsuredFlame$Asked"
abbrev cX1_init : ByteArray := prog_2_method_1_code
def yX1_init : MethodName := ⟨RX1, "<init>", "()V"⟩
theorem dX1_init_0 : decode cX1_init 0 = .ok (.aload_n 0, 1) := by decide +kernel
theorem dX1_init_1 : decode cX1_init 1 = .ok (.invokespecial 1, 3) := by decide +kernel
theorem dX1_init_4 : decode cX1_init 4 = .ok (.return_, 1) := by decide +kernel
theorem q115 : (Jvm.Cond.initialized "InsuredFlame$Asked") ∈ lw_all := lw_g (lw_at lw_m1 2 rfl) rfl
theorem q154 : (Jvm.Cond.instanceMethod ({ cls := "InsuredFlame$Asked", name := "<init>", desc := "()V" } : Jvm.MethodName)) ∈ lw_all := lw_g (lw_at lw_m1 41 rfl) rfl
theorem q155 : (Jvm.Cond.code ({ cls := "InsuredFlame$Asked", name := "<init>", desc := "()V" } : Jvm.MethodName) prog_2_method_1_code (1 : Nat) (Option.none : Option Jvm.ClassFile.FieldType)) ∈ lw_all := lw_g (lw_at lw_m1 42 rfl) rfl
theorem q156 : (Jvm.Cond.methodLink "InsuredFlame$Asked" (1 : Nat) ({ cls := "java/lang/Object", name := "<init>", desc := "()V" } : Jvm.MethodName)) ∈ lw_all := lw_g (lw_at lw_m1 43 rfl) rfl
theorem q188 : (Jvm.Cond.soleField "InsuredFlame$Asked" "isRefused") ∈ lw_all := lw_g (lw_at lw_m1 75 rfl) rfl
theorem q928 : (Jvm.Cond.declares ({ cls := "InsuredFlame$Asked", name := "value", desc := "(I)I" } : Jvm.MethodName)) ∈ lw_tbl := lw_at lw_m4 95 rfl
theorem q929 : (Jvm.Cond.sameMethod "InsuredFlame$Asked" "InsuredFlame$Asked" "value" "(I)I") ∈ lw_all := lw_g (lw_at lw_m4 96 rfl) rfl
/-! InsuredFlame$Moment -/
set_option maxRecDepth 100000
def RX2 : String := "InsuredFlame$Moment"
def TX2 : u_T := fun k => match k with
  | 0 => ("InsuredFlame$Asked", "isRefused", "Z", false)
  | 1 => ("InsuredFlame$Moment", "place", "I", false)
  | 2 => ("InsuredFlame$Moment", "minutes", "I", false)
  | 3 => ("InsuredFlame$Moment", "around", "I", false)
  | 4 => ("InsuredFlame$Moment", "value", "I", false)
  | 5 => ("InsuredFlame$Moment", "sums", "I", false)
  | 6 => ("InsuredFlame$Moment", "way", "I", false)
  | 7 => ("InsuredFlame$Moment", "wind", "I", false)
  | 8 => ("InsuredFlame$Moment", "minute", "I", false)
  | _ => ("InsuredFlame$Moment", "drawn", "I", false)
def tyX2 : Nat → FieldType := fun k => match k with
  | 0 => .boolean
  | 1 => .int
  | 2 => .int
  | 3 => .int
  | 4 => .int
  | 5 => .int
  | 6 => .int
  | 7 => .int
  | 8 => .int
  | _ => .int
abbrev wsX20 : List Cond := u_ws RX2 TX2 10
theorem nmX2 : ∀ a, a < 10 → ∀ b, b < 10 → a ≠ b → (TX2 a).2.1 ≠ (TX2 b).2.1 := by decide +kernel
theorem tyX2_ok : ∀ k, k < 10 → parseFieldDescriptor (TX2 k).2.2.1 = some (tyX2 k) := by decide +kernel
abbrev cX2_init : ByteArray := prog_8_method_1_code
def yX2_init : MethodName := ⟨RX2, "<init>", "()V"⟩
theorem dX2_init_0 : decode cX2_init 0 = .ok (.aload_n 0, 1) := by decide +kernel
theorem dX2_init_1 : decode cX2_init 1 = .ok (.invokespecial 3, 3) := by decide +kernel
theorem dX2_init_4 : decode cX2_init 4 = .ok (.return_, 1) := by decide +kernel
abbrev cX2_of : ByteArray := prog_8_method_2_code
def yX2_of : MethodName := ⟨RX2, "of", "(IIIII)LInsuredFlame$Moment;"⟩
def dkwX2_of_1 : List UInt8 := [181, 0, 24, 42, 176]
abbrev dktX2_of_1 : List UInt8 := dkwX2_of_1 ++ []
def dkwX2_of_0 : List UInt8 := [42, 27, 181, 0, 9, 42, 28, 181, 0, 15, 42, 29, 181, 0, 18, 42, 21, 4, 181, 0, 21, 42, 21, 5]
abbrev dktX2_of_0 : List UInt8 := dkwX2_of_0 ++ dktX2_of_1
theorem dksX2_of_0 : cX2_of.data.toList.drop 0 = dktX2_of_0 := by decide +kernel
theorem dksX2_of_1 : cX2_of.data.toList.drop 24 = dktX2_of_1 := dk_seg dksX2_of_0 24 rfl rfl
theorem dX2_of_0 : decode cX2_of 0 = .ok (.aload_n 0, 1) := dk_42 (dk_at dksX2_of_0 0 rfl rfl)
theorem dX2_of_1 : decode cX2_of 1 = .ok (.iload_n 1, 1) := dk_27 (dk_at dksX2_of_0 1 rfl rfl)
theorem dX2_of_2 : decode cX2_of 2 = .ok (.putfield 9, 3) := dk_181 0 9 (dk_at dksX2_of_0 2 rfl rfl)
theorem dX2_of_5 : decode cX2_of 5 = .ok (.aload_n 0, 1) := dk_42 (dk_at dksX2_of_0 5 rfl rfl)
theorem dX2_of_6 : decode cX2_of 6 = .ok (.iload_n 2, 1) := dk_28 (dk_at dksX2_of_0 6 rfl rfl)
theorem dX2_of_7 : decode cX2_of 7 = .ok (.putfield 15, 3) := dk_181 0 15 (dk_at dksX2_of_0 7 rfl rfl)
theorem dX2_of_10 : decode cX2_of 10 = .ok (.aload_n 0, 1) := dk_42 (dk_at dksX2_of_0 10 rfl rfl)
theorem dX2_of_11 : decode cX2_of 11 = .ok (.iload_n 3, 1) := dk_29 (dk_at dksX2_of_0 11 rfl rfl)
theorem dX2_of_12 : decode cX2_of 12 = .ok (.putfield 18, 3) := dk_181 0 18 (dk_at dksX2_of_0 12 rfl rfl)
theorem dX2_of_15 : decode cX2_of 15 = .ok (.aload_n 0, 1) := dk_42 (dk_at dksX2_of_0 15 rfl rfl)
theorem dX2_of_16 : decode cX2_of 16 = .ok (.iload 4, 2) := dk_21 4 (dk_at dksX2_of_0 16 rfl rfl)
theorem dX2_of_18 : decode cX2_of 18 = .ok (.putfield 21, 3) := dk_181 0 21 (dk_at dksX2_of_0 18 rfl rfl)
theorem dX2_of_21 : decode cX2_of 21 = .ok (.aload_n 0, 1) := dk_42 (dk_at dksX2_of_0 21 rfl rfl)
theorem dX2_of_22 : decode cX2_of 22 = .ok (.iload 5, 2) := dk_21 5 (dk_at dksX2_of_0 22 rfl rfl)
theorem dX2_of_24 : decode cX2_of 24 = .ok (.putfield 24, 3) := dk_181 0 24 (dk_at dksX2_of_1 0 rfl rfl)
theorem dX2_of_27 : decode cX2_of 27 = .ok (.aload_n 0, 1) := dk_42 (dk_at dksX2_of_1 3 rfl rfl)
theorem dX2_of_28 : decode cX2_of 28 = .ok (.areturn, 1) := dk_176 (dk_at dksX2_of_1 4 rfl rfl)
abbrev cX2_with : ByteArray := prog_8_method_3_code
def yX2_with : MethodName := ⟨RX2, "with", "(IIII)LInsuredFlame$Moment;"⟩
def dkwX2_with_1 : List UInt8 := [42, 176]
abbrev dktX2_with_1 : List UInt8 := dkwX2_with_1 ++ []
def dkwX2_with_0 : List UInt8 := [42, 27, 181, 0, 27, 42, 28, 181, 0, 30, 42, 29, 16, 100, 112, 181, 0, 33, 42, 21, 4, 181, 0, 36]
abbrev dktX2_with_0 : List UInt8 := dkwX2_with_0 ++ dktX2_with_1
theorem dksX2_with_0 : cX2_with.data.toList.drop 0 = dktX2_with_0 := by decide +kernel
theorem dksX2_with_1 : cX2_with.data.toList.drop 24 = dktX2_with_1 := dk_seg dksX2_with_0 24 rfl rfl
theorem dX2_with_0 : decode cX2_with 0 = .ok (.aload_n 0, 1) := dk_42 (dk_at dksX2_with_0 0 rfl rfl)
theorem dX2_with_1 : decode cX2_with 1 = .ok (.iload_n 1, 1) := dk_27 (dk_at dksX2_with_0 1 rfl rfl)
theorem dX2_with_2 : decode cX2_with 2 = .ok (.putfield 27, 3) := dk_181 0 27 (dk_at dksX2_with_0 2 rfl rfl)
theorem dX2_with_5 : decode cX2_with 5 = .ok (.aload_n 0, 1) := dk_42 (dk_at dksX2_with_0 5 rfl rfl)
theorem dX2_with_6 : decode cX2_with 6 = .ok (.iload_n 2, 1) := dk_28 (dk_at dksX2_with_0 6 rfl rfl)
theorem dX2_with_7 : decode cX2_with 7 = .ok (.putfield 30, 3) := dk_181 0 30 (dk_at dksX2_with_0 7 rfl rfl)
theorem dX2_with_10 : decode cX2_with 10 = .ok (.aload_n 0, 1) := dk_42 (dk_at dksX2_with_0 10 rfl rfl)
theorem dX2_with_11 : decode cX2_with 11 = .ok (.iload_n 3, 1) := dk_29 (dk_at dksX2_with_0 11 rfl rfl)
theorem dX2_with_12 : decode cX2_with 12 = .ok (.bipush 100, 2) := dk_16 100 (dk_at dksX2_with_0 12 rfl rfl)
theorem dX2_with_14 : decode cX2_with 14 = .ok (.irem, 1) := dk_112 (dk_at dksX2_with_0 14 rfl rfl)
theorem dX2_with_15 : decode cX2_with 15 = .ok (.putfield 33, 3) := dk_181 0 33 (dk_at dksX2_with_0 15 rfl rfl)
theorem dX2_with_18 : decode cX2_with 18 = .ok (.aload_n 0, 1) := dk_42 (dk_at dksX2_with_0 18 rfl rfl)
theorem dX2_with_19 : decode cX2_with 19 = .ok (.iload 4, 2) := dk_21 4 (dk_at dksX2_with_0 19 rfl rfl)
theorem dX2_with_21 : decode cX2_with 21 = .ok (.putfield 36, 3) := dk_181 0 36 (dk_at dksX2_with_0 21 rfl rfl)
theorem dX2_with_24 : decode cX2_with 24 = .ok (.aload_n 0, 1) := dk_42 (dk_at dksX2_with_1 0 rfl rfl)
theorem dX2_with_25 : decode cX2_with 25 = .ok (.areturn, 1) := dk_176 (dk_at dksX2_with_1 1 rfl rfl)
abbrev cX2_value : ByteArray := prog_8_method_4_code
def yX2_value : MethodName := ⟨RX2, "value", "(I)I"⟩
def dkwX2_value_3 : List UInt8 := [172, 42, 180, 0, 27, 172, 42, 180, 0, 30, 172, 42, 180, 0, 33, 172, 42, 180, 0, 36, 172]
abbrev dktX2_value_3 : List UInt8 := dkwX2_value_3 ++ []
def dkwX2_value_2 : List UInt8 := [42, 180, 0, 9, 172, 42, 180, 0, 15, 172, 42, 180, 0, 18, 172, 42, 180, 0, 21, 172, 42, 180, 0, 24]
abbrev dktX2_value_2 : List UInt8 := dkwX2_value_2 ++ dktX2_value_3
def dkwX2_value_1 : List UInt8 := [170, 0, 0, 0, 0, 0, 131, 0, 0, 0, 100, 0, 0, 0, 118, 0, 0, 0, 116, 0, 0, 0, 131, 0, 0, 0, 131, 0, 0, 0, 121, 0, 0, 0, 131, 0, 0, 0, 111, 0, 0, 0, 131, 0, 0, 0, 131, 0, 0, 0, 131, 0, 0, 0, 96, 0, 0, 0, 101, 0, 0, 0, 131, 0, 0, 0, 91, 0, 0, 0, 131, 0, 0, 0, 131, 0, 0, 0, 131, 0, 0, 0, 126, 0, 0, 0, 131, 0, 0, 0, 106]
abbrev dktX2_value_1 : List UInt8 := dkwX2_value_1 ++ dktX2_value_2
def dkwX2_value_0 : List UInt8 := [27]
abbrev dktX2_value_0 : List UInt8 := dkwX2_value_0 ++ dktX2_value_1
theorem dksX2_value_0 : cX2_value.data.toList.drop 0 = dktX2_value_0 := by decide +kernel
theorem dksX2_value_1 : cX2_value.data.toList.drop 1 = dktX2_value_1 := dk_seg dksX2_value_0 1 rfl rfl
theorem dksX2_value_2 : cX2_value.data.toList.drop 92 = dktX2_value_2 := dk_seg dksX2_value_1 91 rfl rfl
theorem dksX2_value_3 : cX2_value.data.toList.drop 116 = dktX2_value_3 := dk_seg dksX2_value_2 24 rfl rfl
theorem dX2_value_0 : decode cX2_value 0 = .ok (.iload_n 1, 1) := dk_27 (dk_at dksX2_value_0 0 rfl rfl)
theorem dX2_value_1 : decode cX2_value 1 = .ok (.tableswitch 131 100 118 #[116, 131, 131, 121, 131, 111, 131, 131, 131, 96, 101, 131, 91, 131, 131, 131, 126, 131, 106], 91) := by decide +kernel
theorem dX2_value_92 : decode cX2_value 92 = .ok (.aload_n 0, 1) := dk_42 (dk_at dksX2_value_2 0 rfl rfl)
theorem dX2_value_93 : decode cX2_value 93 = .ok (.getfield 9, 3) := dk_180 0 9 (dk_at dksX2_value_2 1 rfl rfl)
theorem dX2_value_96 : decode cX2_value 96 = .ok (.ireturn, 1) := dk_172 (dk_at dksX2_value_2 4 rfl rfl)
theorem dX2_value_97 : decode cX2_value 97 = .ok (.aload_n 0, 1) := dk_42 (dk_at dksX2_value_2 5 rfl rfl)
theorem dX2_value_98 : decode cX2_value 98 = .ok (.getfield 15, 3) := dk_180 0 15 (dk_at dksX2_value_2 6 rfl rfl)
theorem dX2_value_101 : decode cX2_value 101 = .ok (.ireturn, 1) := dk_172 (dk_at dksX2_value_2 9 rfl rfl)
theorem dX2_value_102 : decode cX2_value 102 = .ok (.aload_n 0, 1) := dk_42 (dk_at dksX2_value_2 10 rfl rfl)
theorem dX2_value_103 : decode cX2_value 103 = .ok (.getfield 18, 3) := dk_180 0 18 (dk_at dksX2_value_2 11 rfl rfl)
theorem dX2_value_106 : decode cX2_value 106 = .ok (.ireturn, 1) := dk_172 (dk_at dksX2_value_2 14 rfl rfl)
theorem dX2_value_107 : decode cX2_value 107 = .ok (.aload_n 0, 1) := dk_42 (dk_at dksX2_value_2 15 rfl rfl)
theorem dX2_value_108 : decode cX2_value 108 = .ok (.getfield 21, 3) := dk_180 0 21 (dk_at dksX2_value_2 16 rfl rfl)
theorem dX2_value_111 : decode cX2_value 111 = .ok (.ireturn, 1) := dk_172 (dk_at dksX2_value_2 19 rfl rfl)
theorem dX2_value_112 : decode cX2_value 112 = .ok (.aload_n 0, 1) := dk_42 (dk_at dksX2_value_2 20 rfl rfl)
theorem dX2_value_113 : decode cX2_value 113 = .ok (.getfield 24, 3) := dk_180 0 24 (dk_at dksX2_value_2 21 rfl rfl)
theorem dX2_value_116 : decode cX2_value 116 = .ok (.ireturn, 1) := dk_172 (dk_at dksX2_value_3 0 rfl rfl)
theorem dX2_value_117 : decode cX2_value 117 = .ok (.aload_n 0, 1) := dk_42 (dk_at dksX2_value_3 1 rfl rfl)
theorem dX2_value_118 : decode cX2_value 118 = .ok (.getfield 27, 3) := dk_180 0 27 (dk_at dksX2_value_3 2 rfl rfl)
theorem dX2_value_121 : decode cX2_value 121 = .ok (.ireturn, 1) := dk_172 (dk_at dksX2_value_3 5 rfl rfl)
theorem dX2_value_122 : decode cX2_value 122 = .ok (.aload_n 0, 1) := dk_42 (dk_at dksX2_value_3 6 rfl rfl)
theorem dX2_value_123 : decode cX2_value 123 = .ok (.getfield 30, 3) := dk_180 0 30 (dk_at dksX2_value_3 7 rfl rfl)
theorem dX2_value_126 : decode cX2_value 126 = .ok (.ireturn, 1) := dk_172 (dk_at dksX2_value_3 10 rfl rfl)
theorem dX2_value_127 : decode cX2_value 127 = .ok (.aload_n 0, 1) := dk_42 (dk_at dksX2_value_3 11 rfl rfl)
theorem dX2_value_128 : decode cX2_value 128 = .ok (.getfield 33, 3) := dk_180 0 33 (dk_at dksX2_value_3 12 rfl rfl)
theorem dX2_value_131 : decode cX2_value 131 = .ok (.ireturn, 1) := dk_172 (dk_at dksX2_value_3 15 rfl rfl)
theorem dX2_value_132 : decode cX2_value 132 = .ok (.aload_n 0, 1) := dk_42 (dk_at dksX2_value_3 16 rfl rfl)
theorem dX2_value_133 : decode cX2_value 133 = .ok (.getfield 36, 3) := dk_180 0 36 (dk_at dksX2_value_3 17 rfl rfl)
theorem dX2_value_136 : decode cX2_value 136 = .ok (.ireturn, 1) := dk_172 (dk_at dksX2_value_3 20 rfl rfl)
theorem q116 : (Jvm.Cond.initialized "InsuredFlame$Moment") ∈ lw_all := lw_g (lw_at lw_m1 3 rfl) rfl
theorem q149 : (Jvm.Cond.instantiable "InsuredFlame$Moment" (10 : Nat)) ∈ lw_all := lw_g (lw_at lw_m1 36 rfl) rfl
theorem q151 : (Jvm.Cond.instanceMethod ({ cls := "InsuredFlame$Moment", name := "<init>", desc := "()V" } : Jvm.MethodName)) ∈ lw_all := lw_g (lw_at lw_m1 38 rfl) rfl
theorem q152 : (Jvm.Cond.code ({ cls := "InsuredFlame$Moment", name := "<init>", desc := "()V" } : Jvm.MethodName) prog_8_method_1_code (1 : Nat) (Option.none : Option Jvm.ClassFile.FieldType)) ∈ lw_all := lw_g (lw_at lw_m1 39 rfl) rfl
theorem q153 : (Jvm.Cond.methodLinkNest "InsuredFlame$Moment" (3 : Nat) ({ cls := "InsuredFlame$Asked", name := "<init>", desc := "()V" } : Jvm.MethodName) "InsuredFlame") ∈ lw_tbl := lw_at lw_m1 40 rfl
theorem q157 : (Jvm.Cond.fieldLink "InsuredFlame$Moment" (9 : Nat) "InsuredFlame$Moment" "place" "I") ∈ lw_all := lw_g (lw_at lw_m1 44 rfl) rfl
theorem q158 : (Jvm.Cond.fieldLink "InsuredFlame$Moment" (15 : Nat) "InsuredFlame$Moment" "minutes" "I") ∈ lw_all := lw_g (lw_at lw_m1 45 rfl) rfl
theorem q159 : (Jvm.Cond.fieldLink "InsuredFlame$Moment" (18 : Nat) "InsuredFlame$Moment" "around" "I") ∈ lw_all := lw_g (lw_at lw_m1 46 rfl) rfl
theorem q160 : (Jvm.Cond.fieldLink "InsuredFlame$Moment" (21 : Nat) "InsuredFlame$Moment" "value" "I") ∈ lw_all := lw_g (lw_at lw_m1 47 rfl) rfl
theorem q161 : (Jvm.Cond.fieldLink "InsuredFlame$Moment" (24 : Nat) "InsuredFlame$Moment" "sums" "I") ∈ lw_all := lw_g (lw_at lw_m1 48 rfl) rfl
theorem q162 : (Jvm.Cond.fieldLink "InsuredFlame$Moment" (27 : Nat) "InsuredFlame$Moment" "way" "I") ∈ lw_all := lw_g (lw_at lw_m1 49 rfl) rfl
theorem q163 : (Jvm.Cond.fieldLink "InsuredFlame$Moment" (30 : Nat) "InsuredFlame$Moment" "wind" "I") ∈ lw_all := lw_g (lw_at lw_m1 50 rfl) rfl
theorem q164 : (Jvm.Cond.fieldLink "InsuredFlame$Moment" (33 : Nat) "InsuredFlame$Moment" "minute" "I") ∈ lw_all := lw_g (lw_at lw_m1 51 rfl) rfl
theorem q165 : (Jvm.Cond.fieldLink "InsuredFlame$Moment" (36 : Nat) "InsuredFlame$Moment" "drawn" "I") ∈ lw_all := lw_g (lw_at lw_m1 52 rfl) rfl
theorem q169 : (Jvm.Cond.lays "InsuredFlame$Moment" "InsuredFlame$Moment" "place" "I") ∈ lw_all := lw_g (lw_at lw_m1 56 rfl) rfl
theorem q170 : (Jvm.Cond.soleField "InsuredFlame$Moment" "place") ∈ lw_all := lw_g (lw_at lw_m1 57 rfl) rfl
theorem q171 : (Jvm.Cond.lays "InsuredFlame$Moment" "InsuredFlame$Moment" "minutes" "I") ∈ lw_all := lw_g (lw_at lw_m1 58 rfl) rfl
theorem q172 : (Jvm.Cond.soleField "InsuredFlame$Moment" "minutes") ∈ lw_all := lw_g (lw_at lw_m1 59 rfl) rfl
theorem q173 : (Jvm.Cond.lays "InsuredFlame$Moment" "InsuredFlame$Moment" "around" "I") ∈ lw_all := lw_g (lw_at lw_m1 60 rfl) rfl
theorem q174 : (Jvm.Cond.soleField "InsuredFlame$Moment" "around") ∈ lw_all := lw_g (lw_at lw_m1 61 rfl) rfl
theorem q175 : (Jvm.Cond.lays "InsuredFlame$Moment" "InsuredFlame$Moment" "value" "I") ∈ lw_all := lw_g (lw_at lw_m1 62 rfl) rfl
theorem q176 : (Jvm.Cond.soleField "InsuredFlame$Moment" "value") ∈ lw_all := lw_g (lw_at lw_m1 63 rfl) rfl
theorem q177 : (Jvm.Cond.lays "InsuredFlame$Moment" "InsuredFlame$Moment" "sums" "I") ∈ lw_all := lw_g (lw_at lw_m1 64 rfl) rfl
theorem q178 : (Jvm.Cond.soleField "InsuredFlame$Moment" "sums") ∈ lw_all := lw_g (lw_at lw_m1 65 rfl) rfl
theorem q179 : (Jvm.Cond.lays "InsuredFlame$Moment" "InsuredFlame$Moment" "way" "I") ∈ lw_all := lw_g (lw_at lw_m1 66 rfl) rfl
theorem q180 : (Jvm.Cond.soleField "InsuredFlame$Moment" "way") ∈ lw_all := lw_g (lw_at lw_m1 67 rfl) rfl
theorem q181 : (Jvm.Cond.lays "InsuredFlame$Moment" "InsuredFlame$Moment" "wind" "I") ∈ lw_all := lw_g (lw_at lw_m1 68 rfl) rfl
theorem q182 : (Jvm.Cond.soleField "InsuredFlame$Moment" "wind") ∈ lw_all := lw_g (lw_at lw_m1 69 rfl) rfl
theorem q183 : (Jvm.Cond.lays "InsuredFlame$Moment" "InsuredFlame$Moment" "minute" "I") ∈ lw_all := lw_g (lw_at lw_m1 70 rfl) rfl
theorem q184 : (Jvm.Cond.soleField "InsuredFlame$Moment" "minute") ∈ lw_all := lw_g (lw_at lw_m1 71 rfl) rfl
theorem q185 : (Jvm.Cond.lays "InsuredFlame$Moment" "InsuredFlame$Moment" "drawn" "I") ∈ lw_all := lw_g (lw_at lw_m1 72 rfl) rfl
theorem q186 : (Jvm.Cond.soleField "InsuredFlame$Moment" "drawn") ∈ lw_all := lw_g (lw_at lw_m1 73 rfl) rfl
theorem q187 : (Jvm.Cond.lays "InsuredFlame$Moment" "InsuredFlame$Asked" "isRefused" "Z") ∈ lw_all := lw_g (lw_at lw_m1 74 rfl) rfl
theorem q189 : (Jvm.Cond.superclass "InsuredFlame$Moment" "InsuredFlame$Asked") ∈ lw_all := lw_g (lw_at lw_m1 76 rfl) rfl
theorem q904 : (Jvm.Cond.instanceMethod ({ cls := "InsuredFlame$Moment", name := "of", desc := "(IIIII)LInsuredFlame$Moment;" } : Jvm.MethodName)) ∈ lw_all := lw_g (lw_at lw_m4 71 rfl) rfl
theorem q905 : (Jvm.Cond.selects "InsuredFlame$Moment" ({ cls := "InsuredFlame$Moment", name := "of", desc := "(IIIII)LInsuredFlame$Moment;" } : Jvm.MethodName) ({ cls := "InsuredFlame$Moment", name := "of", desc := "(IIIII)LInsuredFlame$Moment;" } : Jvm.MethodName)) ∈ lw_all := lw_g (lw_at lw_m4 72 rfl) rfl
theorem q906 : (Jvm.Cond.code ({ cls := "InsuredFlame$Moment", name := "of", desc := "(IIIII)LInsuredFlame$Moment;" } : Jvm.MethodName) prog_8_method_2_code (6 : Nat) (Option.some (Jvm.ClassFile.FieldType.object "InsuredFlame$Moment"))) ∈ lw_all := lw_g (lw_at lw_m4 73 rfl) rfl
theorem q908 : (Jvm.Cond.instanceMethod ({ cls := "InsuredFlame$Moment", name := "with", desc := "(IIII)LInsuredFlame$Moment;" } : Jvm.MethodName)) ∈ lw_all := lw_g (lw_at lw_m4 75 rfl) rfl
theorem q909 : (Jvm.Cond.selects "InsuredFlame$Moment" ({ cls := "InsuredFlame$Moment", name := "with", desc := "(IIII)LInsuredFlame$Moment;" } : Jvm.MethodName) ({ cls := "InsuredFlame$Moment", name := "with", desc := "(IIII)LInsuredFlame$Moment;" } : Jvm.MethodName)) ∈ lw_all := lw_g (lw_at lw_m4 76 rfl) rfl
theorem q910 : (Jvm.Cond.code ({ cls := "InsuredFlame$Moment", name := "with", desc := "(IIII)LInsuredFlame$Moment;" } : Jvm.MethodName) prog_8_method_3_code (5 : Nat) (Option.some (Jvm.ClassFile.FieldType.object "InsuredFlame$Moment"))) ∈ lw_all := lw_g (lw_at lw_m4 77 rfl) rfl
theorem q930 : (Jvm.Cond.selects "InsuredFlame$Moment" ({ cls := "InsuredFlame$Asked", name := "value", desc := "(I)I" } : Jvm.MethodName) ({ cls := "InsuredFlame$Moment", name := "value", desc := "(I)I" } : Jvm.MethodName)) ∈ lw_all := lw_g (lw_at lw_m4 97 rfl) rfl
theorem q931 : (Jvm.Cond.instanceMethod ({ cls := "InsuredFlame$Moment", name := "value", desc := "(I)I" } : Jvm.MethodName)) ∈ lw_all := lw_g (lw_at lw_m4 98 rfl) rfl
theorem q932 : (Jvm.Cond.code ({ cls := "InsuredFlame$Moment", name := "value", desc := "(I)I" } : Jvm.MethodName) prog_8_method_4_code (2 : Nat) (Option.some Jvm.ClassFile.FieldType.int)) ∈ lw_all := lw_g (lw_at lw_m4 99 rfl) rfl
theorem in_X2 : ∀ w ∈ wsX20, w ∈ lw_all := lw_in wsX20 [187, 169, 171, 173, 175, 177, 179, 181, 183, 185] (by decide +kernel) (by decide +kernel)
/-! InsuredFlame$Fire -/
set_option maxRecDepth 100000
def RX3 : String := "InsuredFlame$Fire"
def TX3 : u_T := fun k => match k with
  | 0 => ("InsuredFlame$Fire", "status", "[I", true)
  | 1 => ("InsuredFlame$Fire", "left", "[I", true)
  | 2 => ("InsuredFlame$Fire", "burned", "[Z", true)
  | 3 => ("InsuredFlame$Fire", "things", "[LInsuredFlame$Thing;", true)
  | 4 => ("InsuredFlame$Fire", "wind", "I", false)
  | 5 => ("InsuredFlame$Fire", "minute", "I", false)
  | 6 => ("InsuredFlame$Fire", "x", "I", false)
  | _ => ("InsuredFlame$Fire", "this$0", "LInsuredFlame;", true)
def tyX3 : Nat → FieldType := fun k => match k with
  | 0 => .array .int
  | 1 => .array .int
  | 2 => .array .boolean
  | 3 => .array (.object "InsuredFlame$Thing")
  | 4 => .int
  | 5 => .int
  | 6 => .int
  | _ => .object "InsuredFlame"
abbrev wsX30 : List Cond := u_ws RX3 TX3 8
theorem nmX3 : ∀ a, a < 8 → ∀ b, b < 8 → a ≠ b → (TX3 a).2.1 ≠ (TX3 b).2.1 := by decide +kernel
theorem tyX3_ok : ∀ k, k < 8 → parseFieldDescriptor (TX3 k).2.2.1 = some (tyX3 k) := by decide +kernel
abbrev cX3_init : ByteArray := prog_6_method_1_code
def yX3_init : MethodName := ⟨RX3, "<init>", "(LInsuredFlame;)V"⟩
def dkwX3_init_3 : List UInt8 := [177]
abbrev dktX3_init_3 : List UInt8 := dkwX3_init_3 ++ []
def dkwX3_init_2 : List UInt8 := [16, 24, 162, 0, 22, 42, 180, 0, 28, 28, 187, 0, 26, 89, 183, 0, 32, 83, 132, 2, 1, 167, 255, 234]
abbrev dktX3_init_2 : List UInt8 := dkwX3_init_2 ++ dktX3_init_3
def dkwX3_init_1 : List UInt8 := [181, 0, 19, 42, 16, 96, 188, 4, 181, 0, 22, 42, 16, 24, 189, 0, 26, 181, 0, 28, 3, 61, 28]
abbrev dktX3_init_1 : List UInt8 := dkwX3_init_1 ++ dktX3_init_2
def dkwX3_init_0 : List UInt8 := [42, 43, 181, 0, 3, 42, 183, 0, 9, 42, 16, 96, 188, 10, 181, 0, 15, 42, 16, 96, 188, 10]
abbrev dktX3_init_0 : List UInt8 := dkwX3_init_0 ++ dktX3_init_1
theorem dksX3_init_0 : cX3_init.data.toList.drop 0 = dktX3_init_0 := by decide +kernel
theorem dksX3_init_1 : cX3_init.data.toList.drop 22 = dktX3_init_1 := dk_seg dksX3_init_0 22 rfl rfl
theorem dksX3_init_2 : cX3_init.data.toList.drop 45 = dktX3_init_2 := dk_seg dksX3_init_1 23 rfl rfl
theorem dksX3_init_3 : cX3_init.data.toList.drop 69 = dktX3_init_3 := dk_seg dksX3_init_2 24 rfl rfl
theorem dX3_init_0 : decode cX3_init 0 = .ok (.aload_n 0, 1) := dk_42 (dk_at dksX3_init_0 0 rfl rfl)
theorem dX3_init_1 : decode cX3_init 1 = .ok (.aload_n 1, 1) := dk_43 (dk_at dksX3_init_0 1 rfl rfl)
theorem dX3_init_2 : decode cX3_init 2 = .ok (.putfield 3, 3) := dk_181 0 3 (dk_at dksX3_init_0 2 rfl rfl)
theorem dX3_init_5 : decode cX3_init 5 = .ok (.aload_n 0, 1) := dk_42 (dk_at dksX3_init_0 5 rfl rfl)
theorem dX3_init_6 : decode cX3_init 6 = .ok (.invokespecial 9, 3) := dk_183 0 9 (dk_at dksX3_init_0 6 rfl rfl)
theorem dX3_init_9 : decode cX3_init 9 = .ok (.aload_n 0, 1) := dk_42 (dk_at dksX3_init_0 9 rfl rfl)
theorem dX3_init_10 : decode cX3_init 10 = .ok (.bipush 96, 2) := dk_16 96 (dk_at dksX3_init_0 10 rfl rfl)
theorem dX3_init_12 : decode cX3_init 12 = .ok (.newarray .int, 2) := dk_188_10 (dk_at dksX3_init_0 12 rfl rfl)
theorem dX3_init_14 : decode cX3_init 14 = .ok (.putfield 15, 3) := dk_181 0 15 (dk_at dksX3_init_0 14 rfl rfl)
theorem dX3_init_17 : decode cX3_init 17 = .ok (.aload_n 0, 1) := dk_42 (dk_at dksX3_init_0 17 rfl rfl)
theorem dX3_init_18 : decode cX3_init 18 = .ok (.bipush 96, 2) := dk_16 96 (dk_at dksX3_init_0 18 rfl rfl)
theorem dX3_init_20 : decode cX3_init 20 = .ok (.newarray .int, 2) := dk_188_10 (dk_at dksX3_init_0 20 rfl rfl)
theorem dX3_init_22 : decode cX3_init 22 = .ok (.putfield 19, 3) := dk_181 0 19 (dk_at dksX3_init_1 0 rfl rfl)
theorem dX3_init_25 : decode cX3_init 25 = .ok (.aload_n 0, 1) := dk_42 (dk_at dksX3_init_1 3 rfl rfl)
theorem dX3_init_26 : decode cX3_init 26 = .ok (.bipush 96, 2) := dk_16 96 (dk_at dksX3_init_1 4 rfl rfl)
theorem dX3_init_28 : decode cX3_init 28 = .ok (.newarray .boolean, 2) := dk_188_4 (dk_at dksX3_init_1 6 rfl rfl)
theorem dX3_init_30 : decode cX3_init 30 = .ok (.putfield 22, 3) := dk_181 0 22 (dk_at dksX3_init_1 8 rfl rfl)
theorem dX3_init_33 : decode cX3_init 33 = .ok (.aload_n 0, 1) := dk_42 (dk_at dksX3_init_1 11 rfl rfl)
theorem dX3_init_34 : decode cX3_init 34 = .ok (.bipush 24, 2) := dk_16 24 (dk_at dksX3_init_1 12 rfl rfl)
theorem dX3_init_36 : decode cX3_init 36 = .ok (.anewarray 26, 3) := dk_189 0 26 (dk_at dksX3_init_1 14 rfl rfl)
theorem dX3_init_39 : decode cX3_init 39 = .ok (.putfield 28, 3) := dk_181 0 28 (dk_at dksX3_init_1 17 rfl rfl)
theorem dX3_init_42 : decode cX3_init 42 = .ok (.iconst 0, 1) := dk_3 (dk_at dksX3_init_1 20 rfl rfl)
theorem dX3_init_43 : decode cX3_init 43 = .ok (.istore_n 2, 1) := dk_61 (dk_at dksX3_init_1 21 rfl rfl)
theorem dX3_init_44 : decode cX3_init 44 = .ok (.iload_n 2, 1) := dk_28 (dk_at dksX3_init_1 22 rfl rfl)
theorem dX3_init_45 : decode cX3_init 45 = .ok (.bipush 24, 2) := dk_16 24 (dk_at dksX3_init_2 0 rfl rfl)
theorem dX3_init_47 : decode cX3_init 47 = .ok (.if_icmp .ge 22, 3) := dk_162 0 22 (dk_at dksX3_init_2 2 rfl rfl)
theorem dX3_init_50 : decode cX3_init 50 = .ok (.aload_n 0, 1) := dk_42 (dk_at dksX3_init_2 5 rfl rfl)
theorem dX3_init_51 : decode cX3_init 51 = .ok (.getfield 28, 3) := dk_180 0 28 (dk_at dksX3_init_2 6 rfl rfl)
theorem dX3_init_54 : decode cX3_init 54 = .ok (.iload_n 2, 1) := dk_28 (dk_at dksX3_init_2 9 rfl rfl)
theorem dX3_init_55 : decode cX3_init 55 = .ok (.new 26, 3) := dk_187 0 26 (dk_at dksX3_init_2 10 rfl rfl)
theorem dX3_init_58 : decode cX3_init 58 = .ok (.dup, 1) := dk_89 (dk_at dksX3_init_2 13 rfl rfl)
theorem dX3_init_59 : decode cX3_init 59 = .ok (.invokespecial 32, 3) := dk_183 0 32 (dk_at dksX3_init_2 14 rfl rfl)
theorem dX3_init_62 : decode cX3_init 62 = .ok (.aastore, 1) := dk_83 (dk_at dksX3_init_2 17 rfl rfl)
theorem dX3_init_63 : decode cX3_init 63 = .ok (.iinc 2 1, 3) := dk_132 2 1 (dk_at dksX3_init_2 18 rfl rfl)
theorem dX3_init_66 : decode cX3_init 66 = .ok (.goto (-22), 3) := dk_167 255 234 (dk_at dksX3_init_2 21 rfl rfl)
theorem dX3_init_69 : decode cX3_init 69 = .ok (.return_, 1) := dk_177 (dk_at dksX3_init_3 0 rfl rfl)
abbrev cX3_isNew : ByteArray := prog_6_method_3_code
def yX3_isNew : MethodName := ⟨RX3, "isNew", "()V"⟩
def dkwX3_isNew_1 : List UInt8 := [132, 1, 1, 167, 255, 233, 177]
abbrev dktX3_isNew_1 : List UInt8 := dkwX3_isNew_1 ++ []
def dkwX3_isNew_0 : List UInt8 := [3, 60, 27, 16, 96, 162, 0, 23, 42, 180, 0, 15, 27, 3, 79, 42, 180, 0, 19, 27, 3, 79]
abbrev dktX3_isNew_0 : List UInt8 := dkwX3_isNew_0 ++ dktX3_isNew_1
theorem dksX3_isNew_0 : cX3_isNew.data.toList.drop 0 = dktX3_isNew_0 := by decide +kernel
theorem dksX3_isNew_1 : cX3_isNew.data.toList.drop 22 = dktX3_isNew_1 := dk_seg dksX3_isNew_0 22 rfl rfl
theorem dX3_isNew_0 : decode cX3_isNew 0 = .ok (.iconst 0, 1) := dk_3 (dk_at dksX3_isNew_0 0 rfl rfl)
theorem dX3_isNew_1 : decode cX3_isNew 1 = .ok (.istore_n 1, 1) := dk_60 (dk_at dksX3_isNew_0 1 rfl rfl)
theorem dX3_isNew_2 : decode cX3_isNew 2 = .ok (.iload_n 1, 1) := dk_27 (dk_at dksX3_isNew_0 2 rfl rfl)
theorem dX3_isNew_3 : decode cX3_isNew 3 = .ok (.bipush 96, 2) := dk_16 96 (dk_at dksX3_isNew_0 3 rfl rfl)
theorem dX3_isNew_5 : decode cX3_isNew 5 = .ok (.if_icmp .ge 23, 3) := dk_162 0 23 (dk_at dksX3_isNew_0 5 rfl rfl)
theorem dX3_isNew_8 : decode cX3_isNew 8 = .ok (.aload_n 0, 1) := dk_42 (dk_at dksX3_isNew_0 8 rfl rfl)
theorem dX3_isNew_9 : decode cX3_isNew 9 = .ok (.getfield 15, 3) := dk_180 0 15 (dk_at dksX3_isNew_0 9 rfl rfl)
theorem dX3_isNew_12 : decode cX3_isNew 12 = .ok (.iload_n 1, 1) := dk_27 (dk_at dksX3_isNew_0 12 rfl rfl)
theorem dX3_isNew_13 : decode cX3_isNew 13 = .ok (.iconst 0, 1) := dk_3 (dk_at dksX3_isNew_0 13 rfl rfl)
theorem dX3_isNew_14 : decode cX3_isNew 14 = .ok (.iastore, 1) := dk_79 (dk_at dksX3_isNew_0 14 rfl rfl)
theorem dX3_isNew_15 : decode cX3_isNew 15 = .ok (.aload_n 0, 1) := dk_42 (dk_at dksX3_isNew_0 15 rfl rfl)
theorem dX3_isNew_16 : decode cX3_isNew 16 = .ok (.getfield 19, 3) := dk_180 0 19 (dk_at dksX3_isNew_0 16 rfl rfl)
theorem dX3_isNew_19 : decode cX3_isNew 19 = .ok (.iload_n 1, 1) := dk_27 (dk_at dksX3_isNew_0 19 rfl rfl)
theorem dX3_isNew_20 : decode cX3_isNew 20 = .ok (.iconst 0, 1) := dk_3 (dk_at dksX3_isNew_0 20 rfl rfl)
theorem dX3_isNew_21 : decode cX3_isNew 21 = .ok (.iastore, 1) := dk_79 (dk_at dksX3_isNew_0 21 rfl rfl)
theorem dX3_isNew_22 : decode cX3_isNew 22 = .ok (.iinc 1 1, 3) := dk_132 1 1 (dk_at dksX3_isNew_1 0 rfl rfl)
theorem dX3_isNew_25 : decode cX3_isNew 25 = .ok (.goto (-23), 3) := dk_167 255 233 (dk_at dksX3_isNew_1 3 rfl rfl)
theorem dX3_isNew_28 : decode cX3_isNew 28 = .ok (.return_, 1) := dk_177 (dk_at dksX3_isNew_1 6 rfl rfl)
abbrev cX3_takes : ByteArray := prog_6_method_2_code
def yX3_takes : MethodName := ⟨RX3, "takes", "(LInsuredFlame$Fire;)LInsuredFlame$Fire;"⟩
def dkwX3_takes_5 : List UInt8 := [181, 0, 47, 42, 176]
abbrev dktX3_takes_5 : List UInt8 := dkwX3_takes_5 ++ []
def dkwX3_takes_4 : List UInt8 := [167, 255, 232, 42, 43, 180, 0, 40, 181, 0, 40, 42, 43, 180, 0, 44, 181, 0, 44, 42, 43, 180, 0, 47]
abbrev dktX3_takes_4 : List UInt8 := dkwX3_takes_4 ++ dktX3_takes_5
def dkwX3_takes_3 : List UInt8 := [28, 16, 24, 162, 0, 24, 42, 180, 0, 28, 28, 50, 43, 180, 0, 28, 28, 50, 182, 0, 36, 132, 2, 1]
abbrev dktX3_takes_3 : List UInt8 := dkwX3_takes_3 ++ dktX3_takes_4
def dkwX3_takes_2 : List UInt8 := [46, 4, 160, 0, 12, 43, 180, 0, 19, 28, 46, 167, 0, 4, 3, 79, 132, 2, 1, 167, 255, 192, 3, 61]
abbrev dktX3_takes_2 : List UInt8 := dkwX3_takes_2 ++ dktX3_takes_3
def dkwX3_takes_1 : List UInt8 := [160, 0, 12, 43, 180, 0, 15, 28, 46, 167, 0, 4, 3, 79, 42, 180, 0, 19, 28, 42, 180, 0, 15, 28]
abbrev dktX3_takes_1 : List UInt8 := dkwX3_takes_1 ++ dktX3_takes_2
def dkwX3_takes_0 : List UInt8 := [3, 61, 28, 16, 96, 162, 0, 64, 42, 180, 0, 15, 28, 42, 180, 0, 3, 180, 0, 33, 28, 46, 4]
abbrev dktX3_takes_0 : List UInt8 := dkwX3_takes_0 ++ dktX3_takes_1
theorem dksX3_takes_0 : cX3_takes.data.toList.drop 0 = dktX3_takes_0 := by decide +kernel
theorem dksX3_takes_1 : cX3_takes.data.toList.drop 23 = dktX3_takes_1 := dk_seg dksX3_takes_0 23 rfl rfl
theorem dksX3_takes_2 : cX3_takes.data.toList.drop 47 = dktX3_takes_2 := dk_seg dksX3_takes_1 24 rfl rfl
theorem dksX3_takes_3 : cX3_takes.data.toList.drop 71 = dktX3_takes_3 := dk_seg dksX3_takes_2 24 rfl rfl
theorem dksX3_takes_4 : cX3_takes.data.toList.drop 95 = dktX3_takes_4 := dk_seg dksX3_takes_3 24 rfl rfl
theorem dksX3_takes_5 : cX3_takes.data.toList.drop 119 = dktX3_takes_5 := dk_seg dksX3_takes_4 24 rfl rfl
theorem dX3_takes_0 : decode cX3_takes 0 = .ok (.iconst 0, 1) := dk_3 (dk_at dksX3_takes_0 0 rfl rfl)
theorem dX3_takes_1 : decode cX3_takes 1 = .ok (.istore_n 2, 1) := dk_61 (dk_at dksX3_takes_0 1 rfl rfl)
theorem dX3_takes_2 : decode cX3_takes 2 = .ok (.iload_n 2, 1) := dk_28 (dk_at dksX3_takes_0 2 rfl rfl)
theorem dX3_takes_3 : decode cX3_takes 3 = .ok (.bipush 96, 2) := dk_16 96 (dk_at dksX3_takes_0 3 rfl rfl)
theorem dX3_takes_5 : decode cX3_takes 5 = .ok (.if_icmp .ge 64, 3) := dk_162 0 64 (dk_at dksX3_takes_0 5 rfl rfl)
theorem dX3_takes_8 : decode cX3_takes 8 = .ok (.aload_n 0, 1) := dk_42 (dk_at dksX3_takes_0 8 rfl rfl)
theorem dX3_takes_9 : decode cX3_takes 9 = .ok (.getfield 15, 3) := dk_180 0 15 (dk_at dksX3_takes_0 9 rfl rfl)
theorem dX3_takes_12 : decode cX3_takes 12 = .ok (.iload_n 2, 1) := dk_28 (dk_at dksX3_takes_0 12 rfl rfl)
theorem dX3_takes_13 : decode cX3_takes 13 = .ok (.aload_n 0, 1) := dk_42 (dk_at dksX3_takes_0 13 rfl rfl)
theorem dX3_takes_14 : decode cX3_takes 14 = .ok (.getfield 3, 3) := dk_180 0 3 (dk_at dksX3_takes_0 14 rfl rfl)
theorem dX3_takes_17 : decode cX3_takes 17 = .ok (.getfield 33, 3) := dk_180 0 33 (dk_at dksX3_takes_0 17 rfl rfl)
theorem dX3_takes_20 : decode cX3_takes 20 = .ok (.iload_n 2, 1) := dk_28 (dk_at dksX3_takes_0 20 rfl rfl)
theorem dX3_takes_21 : decode cX3_takes 21 = .ok (.iaload, 1) := dk_46 (dk_at dksX3_takes_0 21 rfl rfl)
theorem dX3_takes_22 : decode cX3_takes 22 = .ok (.iconst 1, 1) := dk_4 (dk_at dksX3_takes_0 22 rfl rfl)
theorem dX3_takes_23 : decode cX3_takes 23 = .ok (.if_icmp .ne 12, 3) := dk_160 0 12 (dk_at dksX3_takes_1 0 rfl rfl)
theorem dX3_takes_26 : decode cX3_takes 26 = .ok (.aload_n 1, 1) := dk_43 (dk_at dksX3_takes_1 3 rfl rfl)
theorem dX3_takes_27 : decode cX3_takes 27 = .ok (.getfield 15, 3) := dk_180 0 15 (dk_at dksX3_takes_1 4 rfl rfl)
theorem dX3_takes_30 : decode cX3_takes 30 = .ok (.iload_n 2, 1) := dk_28 (dk_at dksX3_takes_1 7 rfl rfl)
theorem dX3_takes_31 : decode cX3_takes 31 = .ok (.iaload, 1) := dk_46 (dk_at dksX3_takes_1 8 rfl rfl)
theorem dX3_takes_32 : decode cX3_takes 32 = .ok (.goto 4, 3) := dk_167 0 4 (dk_at dksX3_takes_1 9 rfl rfl)
theorem dX3_takes_35 : decode cX3_takes 35 = .ok (.iconst 0, 1) := dk_3 (dk_at dksX3_takes_1 12 rfl rfl)
theorem dX3_takes_36 : decode cX3_takes 36 = .ok (.iastore, 1) := dk_79 (dk_at dksX3_takes_1 13 rfl rfl)
theorem dX3_takes_37 : decode cX3_takes 37 = .ok (.aload_n 0, 1) := dk_42 (dk_at dksX3_takes_1 14 rfl rfl)
theorem dX3_takes_38 : decode cX3_takes 38 = .ok (.getfield 19, 3) := dk_180 0 19 (dk_at dksX3_takes_1 15 rfl rfl)
theorem dX3_takes_41 : decode cX3_takes 41 = .ok (.iload_n 2, 1) := dk_28 (dk_at dksX3_takes_1 18 rfl rfl)
theorem dX3_takes_42 : decode cX3_takes 42 = .ok (.aload_n 0, 1) := dk_42 (dk_at dksX3_takes_1 19 rfl rfl)
theorem dX3_takes_43 : decode cX3_takes 43 = .ok (.getfield 15, 3) := dk_180 0 15 (dk_at dksX3_takes_1 20 rfl rfl)
theorem dX3_takes_46 : decode cX3_takes 46 = .ok (.iload_n 2, 1) := dk_28 (dk_at dksX3_takes_1 23 rfl rfl)
theorem dX3_takes_47 : decode cX3_takes 47 = .ok (.iaload, 1) := dk_46 (dk_at dksX3_takes_2 0 rfl rfl)
theorem dX3_takes_48 : decode cX3_takes 48 = .ok (.iconst 1, 1) := dk_4 (dk_at dksX3_takes_2 1 rfl rfl)
theorem dX3_takes_49 : decode cX3_takes 49 = .ok (.if_icmp .ne 12, 3) := dk_160 0 12 (dk_at dksX3_takes_2 2 rfl rfl)
theorem dX3_takes_52 : decode cX3_takes 52 = .ok (.aload_n 1, 1) := dk_43 (dk_at dksX3_takes_2 5 rfl rfl)
theorem dX3_takes_53 : decode cX3_takes 53 = .ok (.getfield 19, 3) := dk_180 0 19 (dk_at dksX3_takes_2 6 rfl rfl)
theorem dX3_takes_56 : decode cX3_takes 56 = .ok (.iload_n 2, 1) := dk_28 (dk_at dksX3_takes_2 9 rfl rfl)
theorem dX3_takes_57 : decode cX3_takes 57 = .ok (.iaload, 1) := dk_46 (dk_at dksX3_takes_2 10 rfl rfl)
theorem dX3_takes_58 : decode cX3_takes 58 = .ok (.goto 4, 3) := dk_167 0 4 (dk_at dksX3_takes_2 11 rfl rfl)
theorem dX3_takes_61 : decode cX3_takes 61 = .ok (.iconst 0, 1) := dk_3 (dk_at dksX3_takes_2 14 rfl rfl)
theorem dX3_takes_62 : decode cX3_takes 62 = .ok (.iastore, 1) := dk_79 (dk_at dksX3_takes_2 15 rfl rfl)
theorem dX3_takes_63 : decode cX3_takes 63 = .ok (.iinc 2 1, 3) := dk_132 2 1 (dk_at dksX3_takes_2 16 rfl rfl)
theorem dX3_takes_66 : decode cX3_takes 66 = .ok (.goto (-64), 3) := dk_167 255 192 (dk_at dksX3_takes_2 19 rfl rfl)
theorem dX3_takes_69 : decode cX3_takes 69 = .ok (.iconst 0, 1) := dk_3 (dk_at dksX3_takes_2 22 rfl rfl)
theorem dX3_takes_70 : decode cX3_takes 70 = .ok (.istore_n 2, 1) := dk_61 (dk_at dksX3_takes_2 23 rfl rfl)
theorem dX3_takes_71 : decode cX3_takes 71 = .ok (.iload_n 2, 1) := dk_28 (dk_at dksX3_takes_3 0 rfl rfl)
theorem dX3_takes_72 : decode cX3_takes 72 = .ok (.bipush 24, 2) := dk_16 24 (dk_at dksX3_takes_3 1 rfl rfl)
theorem dX3_takes_74 : decode cX3_takes 74 = .ok (.if_icmp .ge 24, 3) := dk_162 0 24 (dk_at dksX3_takes_3 3 rfl rfl)
theorem dX3_takes_77 : decode cX3_takes 77 = .ok (.aload_n 0, 1) := dk_42 (dk_at dksX3_takes_3 6 rfl rfl)
theorem dX3_takes_78 : decode cX3_takes 78 = .ok (.getfield 28, 3) := dk_180 0 28 (dk_at dksX3_takes_3 7 rfl rfl)
theorem dX3_takes_81 : decode cX3_takes 81 = .ok (.iload_n 2, 1) := dk_28 (dk_at dksX3_takes_3 10 rfl rfl)
theorem dX3_takes_82 : decode cX3_takes 82 = .ok (.aaload, 1) := dk_50 (dk_at dksX3_takes_3 11 rfl rfl)
theorem dX3_takes_83 : decode cX3_takes 83 = .ok (.aload_n 1, 1) := dk_43 (dk_at dksX3_takes_3 12 rfl rfl)
theorem dX3_takes_84 : decode cX3_takes 84 = .ok (.getfield 28, 3) := dk_180 0 28 (dk_at dksX3_takes_3 13 rfl rfl)
theorem dX3_takes_87 : decode cX3_takes 87 = .ok (.iload_n 2, 1) := dk_28 (dk_at dksX3_takes_3 16 rfl rfl)
theorem dX3_takes_88 : decode cX3_takes 88 = .ok (.aaload, 1) := dk_50 (dk_at dksX3_takes_3 17 rfl rfl)
theorem dX3_takes_89 : decode cX3_takes 89 = .ok (.invokevirtual 36, 3) := dk_182 0 36 (dk_at dksX3_takes_3 18 rfl rfl)
theorem dX3_takes_92 : decode cX3_takes 92 = .ok (.iinc 2 1, 3) := dk_132 2 1 (dk_at dksX3_takes_3 21 rfl rfl)
theorem dX3_takes_95 : decode cX3_takes 95 = .ok (.goto (-24), 3) := dk_167 255 232 (dk_at dksX3_takes_4 0 rfl rfl)
theorem dX3_takes_98 : decode cX3_takes 98 = .ok (.aload_n 0, 1) := dk_42 (dk_at dksX3_takes_4 3 rfl rfl)
theorem dX3_takes_99 : decode cX3_takes 99 = .ok (.aload_n 1, 1) := dk_43 (dk_at dksX3_takes_4 4 rfl rfl)
theorem dX3_takes_100 : decode cX3_takes 100 = .ok (.getfield 40, 3) := dk_180 0 40 (dk_at dksX3_takes_4 5 rfl rfl)
theorem dX3_takes_103 : decode cX3_takes 103 = .ok (.putfield 40, 3) := dk_181 0 40 (dk_at dksX3_takes_4 8 rfl rfl)
theorem dX3_takes_106 : decode cX3_takes 106 = .ok (.aload_n 0, 1) := dk_42 (dk_at dksX3_takes_4 11 rfl rfl)
theorem dX3_takes_107 : decode cX3_takes 107 = .ok (.aload_n 1, 1) := dk_43 (dk_at dksX3_takes_4 12 rfl rfl)
theorem dX3_takes_108 : decode cX3_takes 108 = .ok (.getfield 44, 3) := dk_180 0 44 (dk_at dksX3_takes_4 13 rfl rfl)
theorem dX3_takes_111 : decode cX3_takes 111 = .ok (.putfield 44, 3) := dk_181 0 44 (dk_at dksX3_takes_4 16 rfl rfl)
theorem dX3_takes_114 : decode cX3_takes 114 = .ok (.aload_n 0, 1) := dk_42 (dk_at dksX3_takes_4 19 rfl rfl)
theorem dX3_takes_115 : decode cX3_takes 115 = .ok (.aload_n 1, 1) := dk_43 (dk_at dksX3_takes_4 20 rfl rfl)
theorem dX3_takes_116 : decode cX3_takes 116 = .ok (.getfield 47, 3) := dk_180 0 47 (dk_at dksX3_takes_4 21 rfl rfl)
theorem dX3_takes_119 : decode cX3_takes 119 = .ok (.putfield 47, 3) := dk_181 0 47 (dk_at dksX3_takes_5 0 rfl rfl)
theorem dX3_takes_122 : decode cX3_takes 122 = .ok (.aload_n 0, 1) := dk_42 (dk_at dksX3_takes_5 3 rfl rfl)
theorem dX3_takes_123 : decode cX3_takes 123 = .ok (.areturn, 1) := dk_176 (dk_at dksX3_takes_5 4 rfl rfl)
abbrev cX3_lights : ByteArray := prog_6_method_4_code
def yX3_lights : MethodName := ⟨RX3, "lights", "(II)V"⟩
def dkwX3_lights_0 : List UInt8 := [42, 180, 0, 15, 27, 4, 79, 42, 180, 0, 19, 27, 28, 79, 177]
abbrev dktX3_lights_0 : List UInt8 := dkwX3_lights_0 ++ []
theorem dksX3_lights_0 : cX3_lights.data.toList.drop 0 = dktX3_lights_0 := by decide +kernel
theorem dX3_lights_0 : decode cX3_lights 0 = .ok (.aload_n 0, 1) := dk_42 (dk_at dksX3_lights_0 0 rfl rfl)
theorem dX3_lights_1 : decode cX3_lights 1 = .ok (.getfield 15, 3) := dk_180 0 15 (dk_at dksX3_lights_0 1 rfl rfl)
theorem dX3_lights_4 : decode cX3_lights 4 = .ok (.iload_n 1, 1) := dk_27 (dk_at dksX3_lights_0 4 rfl rfl)
theorem dX3_lights_5 : decode cX3_lights 5 = .ok (.iconst 1, 1) := dk_4 (dk_at dksX3_lights_0 5 rfl rfl)
theorem dX3_lights_6 : decode cX3_lights 6 = .ok (.iastore, 1) := dk_79 (dk_at dksX3_lights_0 6 rfl rfl)
theorem dX3_lights_7 : decode cX3_lights 7 = .ok (.aload_n 0, 1) := dk_42 (dk_at dksX3_lights_0 7 rfl rfl)
theorem dX3_lights_8 : decode cX3_lights 8 = .ok (.getfield 19, 3) := dk_180 0 19 (dk_at dksX3_lights_0 8 rfl rfl)
theorem dX3_lights_11 : decode cX3_lights 11 = .ok (.iload_n 1, 1) := dk_27 (dk_at dksX3_lights_0 11 rfl rfl)
theorem dX3_lights_12 : decode cX3_lights 12 = .ok (.iload_n 2, 1) := dk_28 (dk_at dksX3_lights_0 12 rfl rfl)
theorem dX3_lights_13 : decode cX3_lights 13 = .ok (.iastore, 1) := dk_79 (dk_at dksX3_lights_0 13 rfl rfl)
theorem dX3_lights_14 : decode cX3_lights 14 = .ok (.return_, 1) := dk_177 (dk_at dksX3_lights_0 14 rfl rfl)
abbrev cX3_waters : ByteArray := prog_6_method_5_code
def yX3_waters : MethodName := ⟨RX3, "waters", "(I)V"⟩
def dkwX3_waters_0 : List UInt8 := [42, 180, 0, 15, 27, 3, 79, 42, 180, 0, 19, 27, 3, 79, 177]
abbrev dktX3_waters_0 : List UInt8 := dkwX3_waters_0 ++ []
theorem dksX3_waters_0 : cX3_waters.data.toList.drop 0 = dktX3_waters_0 := by decide +kernel
theorem dX3_waters_0 : decode cX3_waters 0 = .ok (.aload_n 0, 1) := dk_42 (dk_at dksX3_waters_0 0 rfl rfl)
theorem dX3_waters_1 : decode cX3_waters 1 = .ok (.getfield 15, 3) := dk_180 0 15 (dk_at dksX3_waters_0 1 rfl rfl)
theorem dX3_waters_4 : decode cX3_waters 4 = .ok (.iload_n 1, 1) := dk_27 (dk_at dksX3_waters_0 4 rfl rfl)
theorem dX3_waters_5 : decode cX3_waters 5 = .ok (.iconst 0, 1) := dk_3 (dk_at dksX3_waters_0 5 rfl rfl)
theorem dX3_waters_6 : decode cX3_waters 6 = .ok (.iastore, 1) := dk_79 (dk_at dksX3_waters_0 6 rfl rfl)
theorem dX3_waters_7 : decode cX3_waters 7 = .ok (.aload_n 0, 1) := dk_42 (dk_at dksX3_waters_0 7 rfl rfl)
theorem dX3_waters_8 : decode cX3_waters 8 = .ok (.getfield 19, 3) := dk_180 0 19 (dk_at dksX3_waters_0 8 rfl rfl)
theorem dX3_waters_11 : decode cX3_waters 11 = .ok (.iload_n 1, 1) := dk_27 (dk_at dksX3_waters_0 11 rfl rfl)
theorem dX3_waters_12 : decode cX3_waters 12 = .ok (.iconst 0, 1) := dk_3 (dk_at dksX3_waters_0 12 rfl rfl)
theorem dX3_waters_13 : decode cX3_waters 13 = .ok (.iastore, 1) := dk_79 (dk_at dksX3_waters_0 13 rfl rfl)
theorem dX3_waters_14 : decode cX3_waters 14 = .ok (.return_, 1) := dk_177 (dk_at dksX3_waters_0 14 rfl rfl)
abbrev cX3_goes : ByteArray := prog_6_method_18_code
def yX3_goes : MethodName := ⟨RX3, "goes", "(I)LInsuredFlame$Fire;"⟩
def dkwX3_goes_1 : List UInt8 := [167, 255, 234, 42, 176]
abbrev dktX3_goes_1 : List UInt8 := dkwX3_goes_1 ++ []
def dkwX3_goes_0 : List UInt8 := [3, 61, 28, 27, 162, 0, 23, 42, 180, 0, 44, 17, 39, 15, 162, 0, 13, 42, 182, 0, 136, 132, 2, 1]
abbrev dktX3_goes_0 : List UInt8 := dkwX3_goes_0 ++ dktX3_goes_1
theorem dksX3_goes_0 : cX3_goes.data.toList.drop 0 = dktX3_goes_0 := by decide +kernel
theorem dksX3_goes_1 : cX3_goes.data.toList.drop 24 = dktX3_goes_1 := dk_seg dksX3_goes_0 24 rfl rfl
theorem dX3_goes_0 : decode cX3_goes 0 = .ok (.iconst 0, 1) := dk_3 (dk_at dksX3_goes_0 0 rfl rfl)
theorem dX3_goes_1 : decode cX3_goes 1 = .ok (.istore_n 2, 1) := dk_61 (dk_at dksX3_goes_0 1 rfl rfl)
theorem dX3_goes_2 : decode cX3_goes 2 = .ok (.iload_n 2, 1) := dk_28 (dk_at dksX3_goes_0 2 rfl rfl)
theorem dX3_goes_3 : decode cX3_goes 3 = .ok (.iload_n 1, 1) := dk_27 (dk_at dksX3_goes_0 3 rfl rfl)
theorem dX3_goes_4 : decode cX3_goes 4 = .ok (.if_icmp .ge 23, 3) := dk_162 0 23 (dk_at dksX3_goes_0 4 rfl rfl)
theorem dX3_goes_7 : decode cX3_goes 7 = .ok (.aload_n 0, 1) := dk_42 (dk_at dksX3_goes_0 7 rfl rfl)
theorem dX3_goes_8 : decode cX3_goes 8 = .ok (.getfield 44, 3) := dk_180 0 44 (dk_at dksX3_goes_0 8 rfl rfl)
theorem dX3_goes_11 : decode cX3_goes 11 = .ok (.sipush 9999, 3) := dk_17 39 15 (dk_at dksX3_goes_0 11 rfl rfl)
theorem dX3_goes_14 : decode cX3_goes 14 = .ok (.if_icmp .ge 13, 3) := dk_162 0 13 (dk_at dksX3_goes_0 14 rfl rfl)
theorem dX3_goes_17 : decode cX3_goes 17 = .ok (.aload_n 0, 1) := dk_42 (dk_at dksX3_goes_0 17 rfl rfl)
theorem dX3_goes_18 : decode cX3_goes 18 = .ok (.invokevirtual 136, 3) := dk_182 0 136 (dk_at dksX3_goes_0 18 rfl rfl)
theorem dX3_goes_21 : decode cX3_goes 21 = .ok (.iinc 2 1, 3) := dk_132 2 1 (dk_at dksX3_goes_0 21 rfl rfl)
theorem dX3_goes_24 : decode cX3_goes 24 = .ok (.goto (-22), 3) := dk_167 255 234 (dk_at dksX3_goes_1 0 rfl rfl)
theorem dX3_goes_27 : decode cX3_goes 27 = .ok (.aload_n 0, 1) := dk_42 (dk_at dksX3_goes_1 3 rfl rfl)
theorem dX3_goes_28 : decode cX3_goes 28 = .ok (.areturn, 1) := dk_176 (dk_at dksX3_goes_1 4 rfl rfl)
abbrev cX3_minuteGoes : ByteArray := prog_6_method_17_code
def yX3_minuteGoes : MethodName := ⟨RX3, "minuteGoes", "()V"⟩
def dkwX3_minuteGoes_3 : List UInt8 := [181, 0, 44, 177]
abbrev dktX3_minuteGoes_3 : List UInt8 := dkwX3_minuteGoes_3 ++ []
def dkwX3_minuteGoes_2 : List UInt8 := [51, 153, 0, 8, 42, 27, 182, 0, 132, 132, 1, 1, 167, 255, 233, 42, 89, 180, 0, 44, 4, 96]
abbrev dktX3_minuteGoes_2 : List UInt8 := dkwX3_minuteGoes_2 ++ dktX3_minuteGoes_3
def dkwX3_minuteGoes_1 : List UInt8 := [167, 0, 4, 3, 84, 132, 1, 1, 167, 255, 226, 3, 60, 27, 16, 96, 162, 0, 23, 42, 180, 0, 22, 27]
abbrev dktX3_minuteGoes_1 : List UInt8 := dkwX3_minuteGoes_1 ++ dktX3_minuteGoes_2
def dkwX3_minuteGoes_0 : List UInt8 := [3, 60, 27, 16, 96, 162, 0, 30, 42, 180, 0, 22, 27, 42, 180, 0, 15, 27, 46, 4, 160, 0, 7, 4]
abbrev dktX3_minuteGoes_0 : List UInt8 := dkwX3_minuteGoes_0 ++ dktX3_minuteGoes_1
theorem dksX3_minuteGoes_0 : cX3_minuteGoes.data.toList.drop 0 = dktX3_minuteGoes_0 := by decide +kernel
theorem dksX3_minuteGoes_1 : cX3_minuteGoes.data.toList.drop 24 = dktX3_minuteGoes_1 := dk_seg dksX3_minuteGoes_0 24 rfl rfl
theorem dksX3_minuteGoes_2 : cX3_minuteGoes.data.toList.drop 48 = dktX3_minuteGoes_2 := dk_seg dksX3_minuteGoes_1 24 rfl rfl
theorem dksX3_minuteGoes_3 : cX3_minuteGoes.data.toList.drop 70 = dktX3_minuteGoes_3 := dk_seg dksX3_minuteGoes_2 22 rfl rfl
theorem dX3_minuteGoes_0 : decode cX3_minuteGoes 0 = .ok (.iconst 0, 1) := dk_3 (dk_at dksX3_minuteGoes_0 0 rfl rfl)
theorem dX3_minuteGoes_1 : decode cX3_minuteGoes 1 = .ok (.istore_n 1, 1) := dk_60 (dk_at dksX3_minuteGoes_0 1 rfl rfl)
theorem dX3_minuteGoes_2 : decode cX3_minuteGoes 2 = .ok (.iload_n 1, 1) := dk_27 (dk_at dksX3_minuteGoes_0 2 rfl rfl)
theorem dX3_minuteGoes_3 : decode cX3_minuteGoes 3 = .ok (.bipush 96, 2) := dk_16 96 (dk_at dksX3_minuteGoes_0 3 rfl rfl)
theorem dX3_minuteGoes_5 : decode cX3_minuteGoes 5 = .ok (.if_icmp .ge 30, 3) := dk_162 0 30 (dk_at dksX3_minuteGoes_0 5 rfl rfl)
theorem dX3_minuteGoes_8 : decode cX3_minuteGoes 8 = .ok (.aload_n 0, 1) := dk_42 (dk_at dksX3_minuteGoes_0 8 rfl rfl)
theorem dX3_minuteGoes_9 : decode cX3_minuteGoes 9 = .ok (.getfield 22, 3) := dk_180 0 22 (dk_at dksX3_minuteGoes_0 9 rfl rfl)
theorem dX3_minuteGoes_12 : decode cX3_minuteGoes 12 = .ok (.iload_n 1, 1) := dk_27 (dk_at dksX3_minuteGoes_0 12 rfl rfl)
theorem dX3_minuteGoes_13 : decode cX3_minuteGoes 13 = .ok (.aload_n 0, 1) := dk_42 (dk_at dksX3_minuteGoes_0 13 rfl rfl)
theorem dX3_minuteGoes_14 : decode cX3_minuteGoes 14 = .ok (.getfield 15, 3) := dk_180 0 15 (dk_at dksX3_minuteGoes_0 14 rfl rfl)
theorem dX3_minuteGoes_17 : decode cX3_minuteGoes 17 = .ok (.iload_n 1, 1) := dk_27 (dk_at dksX3_minuteGoes_0 17 rfl rfl)
theorem dX3_minuteGoes_18 : decode cX3_minuteGoes 18 = .ok (.iaload, 1) := dk_46 (dk_at dksX3_minuteGoes_0 18 rfl rfl)
theorem dX3_minuteGoes_19 : decode cX3_minuteGoes 19 = .ok (.iconst 1, 1) := dk_4 (dk_at dksX3_minuteGoes_0 19 rfl rfl)
theorem dX3_minuteGoes_20 : decode cX3_minuteGoes 20 = .ok (.if_icmp .ne 7, 3) := dk_160 0 7 (dk_at dksX3_minuteGoes_0 20 rfl rfl)
theorem dX3_minuteGoes_23 : decode cX3_minuteGoes 23 = .ok (.iconst 1, 1) := dk_4 (dk_at dksX3_minuteGoes_0 23 rfl rfl)
theorem dX3_minuteGoes_24 : decode cX3_minuteGoes 24 = .ok (.goto 4, 3) := dk_167 0 4 (dk_at dksX3_minuteGoes_1 0 rfl rfl)
theorem dX3_minuteGoes_27 : decode cX3_minuteGoes 27 = .ok (.iconst 0, 1) := dk_3 (dk_at dksX3_minuteGoes_1 3 rfl rfl)
theorem dX3_minuteGoes_28 : decode cX3_minuteGoes 28 = .ok (.bastore, 1) := dk_84 (dk_at dksX3_minuteGoes_1 4 rfl rfl)
theorem dX3_minuteGoes_29 : decode cX3_minuteGoes 29 = .ok (.iinc 1 1, 3) := dk_132 1 1 (dk_at dksX3_minuteGoes_1 5 rfl rfl)
theorem dX3_minuteGoes_32 : decode cX3_minuteGoes 32 = .ok (.goto (-30), 3) := dk_167 255 226 (dk_at dksX3_minuteGoes_1 8 rfl rfl)
theorem dX3_minuteGoes_35 : decode cX3_minuteGoes 35 = .ok (.iconst 0, 1) := dk_3 (dk_at dksX3_minuteGoes_1 11 rfl rfl)
theorem dX3_minuteGoes_36 : decode cX3_minuteGoes 36 = .ok (.istore_n 1, 1) := dk_60 (dk_at dksX3_minuteGoes_1 12 rfl rfl)
theorem dX3_minuteGoes_37 : decode cX3_minuteGoes 37 = .ok (.iload_n 1, 1) := dk_27 (dk_at dksX3_minuteGoes_1 13 rfl rfl)
theorem dX3_minuteGoes_38 : decode cX3_minuteGoes 38 = .ok (.bipush 96, 2) := dk_16 96 (dk_at dksX3_minuteGoes_1 14 rfl rfl)
theorem dX3_minuteGoes_40 : decode cX3_minuteGoes 40 = .ok (.if_icmp .ge 23, 3) := dk_162 0 23 (dk_at dksX3_minuteGoes_1 16 rfl rfl)
theorem dX3_minuteGoes_43 : decode cX3_minuteGoes 43 = .ok (.aload_n 0, 1) := dk_42 (dk_at dksX3_minuteGoes_1 19 rfl rfl)
theorem dX3_minuteGoes_44 : decode cX3_minuteGoes 44 = .ok (.getfield 22, 3) := dk_180 0 22 (dk_at dksX3_minuteGoes_1 20 rfl rfl)
theorem dX3_minuteGoes_47 : decode cX3_minuteGoes 47 = .ok (.iload_n 1, 1) := dk_27 (dk_at dksX3_minuteGoes_1 23 rfl rfl)
theorem dX3_minuteGoes_48 : decode cX3_minuteGoes 48 = .ok (.baload, 1) := dk_51 (dk_at dksX3_minuteGoes_2 0 rfl rfl)
theorem dX3_minuteGoes_49 : decode cX3_minuteGoes 49 = .ok (.ifCond .eq 8, 3) := dk_153 0 8 (dk_at dksX3_minuteGoes_2 1 rfl rfl)
theorem dX3_minuteGoes_52 : decode cX3_minuteGoes 52 = .ok (.aload_n 0, 1) := dk_42 (dk_at dksX3_minuteGoes_2 4 rfl rfl)
theorem dX3_minuteGoes_53 : decode cX3_minuteGoes 53 = .ok (.iload_n 1, 1) := dk_27 (dk_at dksX3_minuteGoes_2 5 rfl rfl)
theorem dX3_minuteGoes_54 : decode cX3_minuteGoes 54 = .ok (.invokevirtual 132, 3) := dk_182 0 132 (dk_at dksX3_minuteGoes_2 6 rfl rfl)
theorem dX3_minuteGoes_57 : decode cX3_minuteGoes 57 = .ok (.iinc 1 1, 3) := dk_132 1 1 (dk_at dksX3_minuteGoes_2 9 rfl rfl)
theorem dX3_minuteGoes_60 : decode cX3_minuteGoes 60 = .ok (.goto (-23), 3) := dk_167 255 233 (dk_at dksX3_minuteGoes_2 12 rfl rfl)
theorem dX3_minuteGoes_63 : decode cX3_minuteGoes 63 = .ok (.aload_n 0, 1) := dk_42 (dk_at dksX3_minuteGoes_2 15 rfl rfl)
theorem dX3_minuteGoes_64 : decode cX3_minuteGoes 64 = .ok (.dup, 1) := dk_89 (dk_at dksX3_minuteGoes_2 16 rfl rfl)
theorem dX3_minuteGoes_65 : decode cX3_minuteGoes 65 = .ok (.getfield 44, 3) := dk_180 0 44 (dk_at dksX3_minuteGoes_2 17 rfl rfl)
theorem dX3_minuteGoes_68 : decode cX3_minuteGoes 68 = .ok (.iconst 1, 1) := dk_4 (dk_at dksX3_minuteGoes_2 20 rfl rfl)
theorem dX3_minuteGoes_69 : decode cX3_minuteGoes 69 = .ok (.iadd, 1) := dk_96 (dk_at dksX3_minuteGoes_2 21 rfl rfl)
theorem dX3_minuteGoes_70 : decode cX3_minuteGoes 70 = .ok (.putfield 44, 3) := dk_181 0 44 (dk_at dksX3_minuteGoes_3 0 rfl rfl)
theorem dX3_minuteGoes_73 : decode cX3_minuteGoes 73 = .ok (.return_, 1) := dk_177 (dk_at dksX3_minuteGoes_3 3 rfl rfl)
abbrev cX3_burns : ByteArray := prog_6_method_16_code
def yX3_burns : MethodName := ⟨RX3, "burns", "(I)V"⟩
def dkwX3_burns_6 : List UInt8 := [177]
abbrev dktX3_burns_6 : List UInt8 := dkwX3_burns_6 ++ []
def dkwX3_burns_5 : List UInt8 := [180, 0, 19, 27, 46, 4, 100, 79, 42, 180, 0, 19, 27, 46, 154, 0, 10, 42, 180, 0, 15, 27, 5, 79]
abbrev dktX3_burns_5 : List UInt8 := dkwX3_burns_5 ++ dktX3_burns_6
def dkwX3_burns_4 : List UInt8 := [182, 0, 112, 182, 0, 100, 182, 0, 128, 61, 42, 180, 0, 19, 27, 28, 153, 0, 7, 3, 167, 0, 11, 42]
abbrev dktX3_burns_4 : List UInt8 := dkwX3_burns_4 ++ dktX3_burns_5
def dkwX3_burns_3 : List UInt8 := [167, 255, 242, 42, 180, 0, 3, 180, 0, 96, 16, 120, 42, 27, 42, 180, 0, 19, 27, 46, 3, 42]
abbrev dktX3_burns_3 : List UInt8 := dkwX3_burns_3 ++ dktX3_burns_4
def dkwX3_burns_2 : List UInt8 := [132, 4, 1, 167, 255, 218, 3, 61, 28, 7, 162, 0, 15, 42, 27, 28, 182, 0, 125, 132, 2, 1]
abbrev dktX3_burns_2 : List UInt8 := dkwX3_burns_2 ++ dktX3_burns_3
def dkwX3_burns_1 : List UInt8 := [25, 5, 27, 182, 0, 54, 153, 0, 17, 25, 5, 180, 0, 58, 154, 0, 9, 25, 5, 4, 181, 0, 68]
abbrev dktX3_burns_1 : List UInt8 := dkwX3_burns_1 ++ dktX3_burns_2
def dkwX3_burns_0 : List UInt8 := [42, 180, 0, 28, 77, 44, 190, 62, 3, 54, 4, 21, 4, 29, 162, 0, 38, 44, 21, 4, 50, 58, 5]
abbrev dktX3_burns_0 : List UInt8 := dkwX3_burns_0 ++ dktX3_burns_1
theorem dksX3_burns_0 : cX3_burns.data.toList.drop 0 = dktX3_burns_0 := by decide +kernel
theorem dksX3_burns_1 : cX3_burns.data.toList.drop 23 = dktX3_burns_1 := dk_seg dksX3_burns_0 23 rfl rfl
theorem dksX3_burns_2 : cX3_burns.data.toList.drop 46 = dktX3_burns_2 := dk_seg dksX3_burns_1 23 rfl rfl
theorem dksX3_burns_3 : cX3_burns.data.toList.drop 68 = dktX3_burns_3 := dk_seg dksX3_burns_2 22 rfl rfl
theorem dksX3_burns_4 : cX3_burns.data.toList.drop 90 = dktX3_burns_4 := dk_seg dksX3_burns_3 22 rfl rfl
theorem dksX3_burns_5 : cX3_burns.data.toList.drop 114 = dktX3_burns_5 := dk_seg dksX3_burns_4 24 rfl rfl
theorem dksX3_burns_6 : cX3_burns.data.toList.drop 138 = dktX3_burns_6 := dk_seg dksX3_burns_5 24 rfl rfl
theorem dX3_burns_0 : decode cX3_burns 0 = .ok (.aload_n 0, 1) := dk_42 (dk_at dksX3_burns_0 0 rfl rfl)
theorem dX3_burns_1 : decode cX3_burns 1 = .ok (.getfield 28, 3) := dk_180 0 28 (dk_at dksX3_burns_0 1 rfl rfl)
theorem dX3_burns_4 : decode cX3_burns 4 = .ok (.astore_n 2, 1) := dk_77 (dk_at dksX3_burns_0 4 rfl rfl)
theorem dX3_burns_5 : decode cX3_burns 5 = .ok (.aload_n 2, 1) := dk_44 (dk_at dksX3_burns_0 5 rfl rfl)
theorem dX3_burns_6 : decode cX3_burns 6 = .ok (.arraylength, 1) := dk_190 (dk_at dksX3_burns_0 6 rfl rfl)
theorem dX3_burns_7 : decode cX3_burns 7 = .ok (.istore_n 3, 1) := dk_62 (dk_at dksX3_burns_0 7 rfl rfl)
theorem dX3_burns_8 : decode cX3_burns 8 = .ok (.iconst 0, 1) := dk_3 (dk_at dksX3_burns_0 8 rfl rfl)
theorem dX3_burns_9 : decode cX3_burns 9 = .ok (.istore 4, 2) := dk_54 4 (dk_at dksX3_burns_0 9 rfl rfl)
theorem dX3_burns_11 : decode cX3_burns 11 = .ok (.iload 4, 2) := dk_21 4 (dk_at dksX3_burns_0 11 rfl rfl)
theorem dX3_burns_13 : decode cX3_burns 13 = .ok (.iload_n 3, 1) := dk_29 (dk_at dksX3_burns_0 13 rfl rfl)
theorem dX3_burns_14 : decode cX3_burns 14 = .ok (.if_icmp .ge 38, 3) := dk_162 0 38 (dk_at dksX3_burns_0 14 rfl rfl)
theorem dX3_burns_17 : decode cX3_burns 17 = .ok (.aload_n 2, 1) := dk_44 (dk_at dksX3_burns_0 17 rfl rfl)
theorem dX3_burns_18 : decode cX3_burns 18 = .ok (.iload 4, 2) := dk_21 4 (dk_at dksX3_burns_0 18 rfl rfl)
theorem dX3_burns_20 : decode cX3_burns 20 = .ok (.aaload, 1) := dk_50 (dk_at dksX3_burns_0 20 rfl rfl)
theorem dX3_burns_21 : decode cX3_burns 21 = .ok (.astore 5, 2) := dk_58 5 (dk_at dksX3_burns_0 21 rfl rfl)
theorem dX3_burns_23 : decode cX3_burns 23 = .ok (.aload 5, 2) := dk_25 5 (dk_at dksX3_burns_1 0 rfl rfl)
theorem dX3_burns_25 : decode cX3_burns 25 = .ok (.iload_n 1, 1) := dk_27 (dk_at dksX3_burns_1 2 rfl rfl)
theorem dX3_burns_26 : decode cX3_burns 26 = .ok (.invokevirtual 54, 3) := dk_182 0 54 (dk_at dksX3_burns_1 3 rfl rfl)
theorem dX3_burns_29 : decode cX3_burns 29 = .ok (.ifCond .eq 17, 3) := dk_153 0 17 (dk_at dksX3_burns_1 6 rfl rfl)
theorem dX3_burns_32 : decode cX3_burns 32 = .ok (.aload 5, 2) := dk_25 5 (dk_at dksX3_burns_1 9 rfl rfl)
theorem dX3_burns_34 : decode cX3_burns 34 = .ok (.getfield 58, 3) := dk_180 0 58 (dk_at dksX3_burns_1 11 rfl rfl)
theorem dX3_burns_37 : decode cX3_burns 37 = .ok (.ifCond .ne 9, 3) := dk_154 0 9 (dk_at dksX3_burns_1 14 rfl rfl)
theorem dX3_burns_40 : decode cX3_burns 40 = .ok (.aload 5, 2) := dk_25 5 (dk_at dksX3_burns_1 17 rfl rfl)
theorem dX3_burns_42 : decode cX3_burns 42 = .ok (.iconst 1, 1) := dk_4 (dk_at dksX3_burns_1 19 rfl rfl)
theorem dX3_burns_43 : decode cX3_burns 43 = .ok (.putfield 68, 3) := dk_181 0 68 (dk_at dksX3_burns_1 20 rfl rfl)
theorem dX3_burns_46 : decode cX3_burns 46 = .ok (.iinc 4 1, 3) := dk_132 4 1 (dk_at dksX3_burns_2 0 rfl rfl)
theorem dX3_burns_49 : decode cX3_burns 49 = .ok (.goto (-38), 3) := dk_167 255 218 (dk_at dksX3_burns_2 3 rfl rfl)
theorem dX3_burns_52 : decode cX3_burns 52 = .ok (.iconst 0, 1) := dk_3 (dk_at dksX3_burns_2 6 rfl rfl)
theorem dX3_burns_53 : decode cX3_burns 53 = .ok (.istore_n 2, 1) := dk_61 (dk_at dksX3_burns_2 7 rfl rfl)
theorem dX3_burns_54 : decode cX3_burns 54 = .ok (.iload_n 2, 1) := dk_28 (dk_at dksX3_burns_2 8 rfl rfl)
theorem dX3_burns_55 : decode cX3_burns 55 = .ok (.iconst 4, 1) := dk_7 (dk_at dksX3_burns_2 9 rfl rfl)
theorem dX3_burns_56 : decode cX3_burns 56 = .ok (.if_icmp .ge 15, 3) := dk_162 0 15 (dk_at dksX3_burns_2 10 rfl rfl)
theorem dX3_burns_59 : decode cX3_burns 59 = .ok (.aload_n 0, 1) := dk_42 (dk_at dksX3_burns_2 13 rfl rfl)
theorem dX3_burns_60 : decode cX3_burns 60 = .ok (.iload_n 1, 1) := dk_27 (dk_at dksX3_burns_2 14 rfl rfl)
theorem dX3_burns_61 : decode cX3_burns 61 = .ok (.iload_n 2, 1) := dk_28 (dk_at dksX3_burns_2 15 rfl rfl)
theorem dX3_burns_62 : decode cX3_burns 62 = .ok (.invokevirtual 125, 3) := dk_182 0 125 (dk_at dksX3_burns_2 16 rfl rfl)
theorem dX3_burns_65 : decode cX3_burns 65 = .ok (.iinc 2 1, 3) := dk_132 2 1 (dk_at dksX3_burns_2 19 rfl rfl)
theorem dX3_burns_68 : decode cX3_burns 68 = .ok (.goto (-14), 3) := dk_167 255 242 (dk_at dksX3_burns_3 0 rfl rfl)
theorem dX3_burns_71 : decode cX3_burns 71 = .ok (.aload_n 0, 1) := dk_42 (dk_at dksX3_burns_3 3 rfl rfl)
theorem dX3_burns_72 : decode cX3_burns 72 = .ok (.getfield 3, 3) := dk_180 0 3 (dk_at dksX3_burns_3 4 rfl rfl)
theorem dX3_burns_75 : decode cX3_burns 75 = .ok (.getfield 96, 3) := dk_180 0 96 (dk_at dksX3_burns_3 7 rfl rfl)
theorem dX3_burns_78 : decode cX3_burns 78 = .ok (.bipush 120, 2) := dk_16 120 (dk_at dksX3_burns_3 10 rfl rfl)
theorem dX3_burns_80 : decode cX3_burns 80 = .ok (.aload_n 0, 1) := dk_42 (dk_at dksX3_burns_3 12 rfl rfl)
theorem dX3_burns_81 : decode cX3_burns 81 = .ok (.iload_n 1, 1) := dk_27 (dk_at dksX3_burns_3 13 rfl rfl)
theorem dX3_burns_82 : decode cX3_burns 82 = .ok (.aload_n 0, 1) := dk_42 (dk_at dksX3_burns_3 14 rfl rfl)
theorem dX3_burns_83 : decode cX3_burns 83 = .ok (.getfield 19, 3) := dk_180 0 19 (dk_at dksX3_burns_3 15 rfl rfl)
theorem dX3_burns_86 : decode cX3_burns 86 = .ok (.iload_n 1, 1) := dk_27 (dk_at dksX3_burns_3 18 rfl rfl)
theorem dX3_burns_87 : decode cX3_burns 87 = .ok (.iaload, 1) := dk_46 (dk_at dksX3_burns_3 19 rfl rfl)
theorem dX3_burns_88 : decode cX3_burns 88 = .ok (.iconst 0, 1) := dk_3 (dk_at dksX3_burns_3 20 rfl rfl)
theorem dX3_burns_89 : decode cX3_burns 89 = .ok (.aload_n 0, 1) := dk_42 (dk_at dksX3_burns_3 21 rfl rfl)
theorem dX3_burns_90 : decode cX3_burns 90 = .ok (.invokevirtual 112, 3) := dk_182 0 112 (dk_at dksX3_burns_4 0 rfl rfl)
theorem dX3_burns_93 : decode cX3_burns 93 = .ok (.invokevirtual 100, 3) := dk_182 0 100 (dk_at dksX3_burns_4 3 rfl rfl)
theorem dX3_burns_96 : decode cX3_burns 96 = .ok (.invokevirtual 128, 3) := dk_182 0 128 (dk_at dksX3_burns_4 6 rfl rfl)
theorem dX3_burns_99 : decode cX3_burns 99 = .ok (.istore_n 2, 1) := dk_61 (dk_at dksX3_burns_4 9 rfl rfl)
theorem dX3_burns_100 : decode cX3_burns 100 = .ok (.aload_n 0, 1) := dk_42 (dk_at dksX3_burns_4 10 rfl rfl)
theorem dX3_burns_101 : decode cX3_burns 101 = .ok (.getfield 19, 3) := dk_180 0 19 (dk_at dksX3_burns_4 11 rfl rfl)
theorem dX3_burns_104 : decode cX3_burns 104 = .ok (.iload_n 1, 1) := dk_27 (dk_at dksX3_burns_4 14 rfl rfl)
theorem dX3_burns_105 : decode cX3_burns 105 = .ok (.iload_n 2, 1) := dk_28 (dk_at dksX3_burns_4 15 rfl rfl)
theorem dX3_burns_106 : decode cX3_burns 106 = .ok (.ifCond .eq 7, 3) := dk_153 0 7 (dk_at dksX3_burns_4 16 rfl rfl)
theorem dX3_burns_109 : decode cX3_burns 109 = .ok (.iconst 0, 1) := dk_3 (dk_at dksX3_burns_4 19 rfl rfl)
theorem dX3_burns_110 : decode cX3_burns 110 = .ok (.goto 11, 3) := dk_167 0 11 (dk_at dksX3_burns_4 20 rfl rfl)
theorem dX3_burns_113 : decode cX3_burns 113 = .ok (.aload_n 0, 1) := dk_42 (dk_at dksX3_burns_4 23 rfl rfl)
theorem dX3_burns_114 : decode cX3_burns 114 = .ok (.getfield 19, 3) := dk_180 0 19 (dk_at dksX3_burns_5 0 rfl rfl)
theorem dX3_burns_117 : decode cX3_burns 117 = .ok (.iload_n 1, 1) := dk_27 (dk_at dksX3_burns_5 3 rfl rfl)
theorem dX3_burns_118 : decode cX3_burns 118 = .ok (.iaload, 1) := dk_46 (dk_at dksX3_burns_5 4 rfl rfl)
theorem dX3_burns_119 : decode cX3_burns 119 = .ok (.iconst 1, 1) := dk_4 (dk_at dksX3_burns_5 5 rfl rfl)
theorem dX3_burns_120 : decode cX3_burns 120 = .ok (.isub, 1) := dk_100 (dk_at dksX3_burns_5 6 rfl rfl)
theorem dX3_burns_121 : decode cX3_burns 121 = .ok (.iastore, 1) := dk_79 (dk_at dksX3_burns_5 7 rfl rfl)
theorem dX3_burns_122 : decode cX3_burns 122 = .ok (.aload_n 0, 1) := dk_42 (dk_at dksX3_burns_5 8 rfl rfl)
theorem dX3_burns_123 : decode cX3_burns 123 = .ok (.getfield 19, 3) := dk_180 0 19 (dk_at dksX3_burns_5 9 rfl rfl)
theorem dX3_burns_126 : decode cX3_burns 126 = .ok (.iload_n 1, 1) := dk_27 (dk_at dksX3_burns_5 12 rfl rfl)
theorem dX3_burns_127 : decode cX3_burns 127 = .ok (.iaload, 1) := dk_46 (dk_at dksX3_burns_5 13 rfl rfl)
theorem dX3_burns_128 : decode cX3_burns 128 = .ok (.ifCond .ne 10, 3) := dk_154 0 10 (dk_at dksX3_burns_5 14 rfl rfl)
theorem dX3_burns_131 : decode cX3_burns 131 = .ok (.aload_n 0, 1) := dk_42 (dk_at dksX3_burns_5 17 rfl rfl)
theorem dX3_burns_132 : decode cX3_burns 132 = .ok (.getfield 15, 3) := dk_180 0 15 (dk_at dksX3_burns_5 18 rfl rfl)
theorem dX3_burns_135 : decode cX3_burns 135 = .ok (.iload_n 1, 1) := dk_27 (dk_at dksX3_burns_5 21 rfl rfl)
theorem dX3_burns_136 : decode cX3_burns 136 = .ok (.iconst 2, 1) := dk_5 (dk_at dksX3_burns_5 22 rfl rfl)
theorem dX3_burns_137 : decode cX3_burns 137 = .ok (.iastore, 1) := dk_79 (dk_at dksX3_burns_5 23 rfl rfl)
theorem dX3_burns_138 : decode cX3_burns 138 = .ok (.return_, 1) := dk_177 (dk_at dksX3_burns_6 0 rfl rfl)
abbrev cX3_goesOver : ByteArray := prog_6_method_15_code
def yX3_goesOver : MethodName := ⟨RX3, "goesOver", "(II)V"⟩
def dkwX3_goesOver_4 : List UInt8 := [182, 0, 103, 16, 9, 184, 0, 109, 184, 0, 116, 54, 5, 42, 29, 21, 5, 182, 0, 121, 177]
abbrev dktX3_goesOver_4 : List UInt8 := dkwX3_goesOver_4 ++ []
def dkwX3_goesOver_3 : List UInt8 := [21, 4, 161, 0, 4, 177, 4, 42, 180, 0, 3, 180, 0, 96, 16, 98, 42, 29, 3, 3, 3, 182, 0, 100]
abbrev dktX3_goesOver_3 : List UInt8 := dkwX3_goesOver_3 ++ dktX3_goesOver_4
def dkwX3_goesOver_2 : List UInt8 := [180, 0, 19, 27, 46, 28, 3, 182, 0, 100, 182, 0, 103, 16, 10, 184, 0, 109, 54, 4, 42, 182, 0, 112]
abbrev dktX3_goesOver_2 : List UInt8 := dkwX3_goesOver_2 ++ dktX3_goesOver_3
def dkwX3_goesOver_1 : List UInt8 := [42, 180, 0, 15, 29, 46, 153, 0, 4, 177, 42, 180, 0, 3, 180, 0, 96, 16, 115, 42, 29, 42]
abbrev dktX3_goesOver_1 : List UInt8 := dkwX3_goesOver_1 ++ dktX3_goesOver_2
def dkwX3_goesOver_0 : List UInt8 := [27, 28, 184, 0, 50, 62, 29, 2, 159, 0, 25, 42, 180, 0, 3, 180, 0, 33, 29, 46, 4, 160, 0, 12]
abbrev dktX3_goesOver_0 : List UInt8 := dkwX3_goesOver_0 ++ dktX3_goesOver_1
theorem dksX3_goesOver_0 : cX3_goesOver.data.toList.drop 0 = dktX3_goesOver_0 := by decide +kernel
theorem dksX3_goesOver_1 : cX3_goesOver.data.toList.drop 24 = dktX3_goesOver_1 := dk_seg dksX3_goesOver_0 24 rfl rfl
theorem dksX3_goesOver_2 : cX3_goesOver.data.toList.drop 46 = dktX3_goesOver_2 := dk_seg dksX3_goesOver_1 22 rfl rfl
theorem dksX3_goesOver_3 : cX3_goesOver.data.toList.drop 70 = dktX3_goesOver_3 := dk_seg dksX3_goesOver_2 24 rfl rfl
theorem dksX3_goesOver_4 : cX3_goesOver.data.toList.drop 94 = dktX3_goesOver_4 := dk_seg dksX3_goesOver_3 24 rfl rfl
theorem dX3_goesOver_0 : decode cX3_goesOver 0 = .ok (.iload_n 1, 1) := dk_27 (dk_at dksX3_goesOver_0 0 rfl rfl)
theorem dX3_goesOver_1 : decode cX3_goesOver 1 = .ok (.iload_n 2, 1) := dk_28 (dk_at dksX3_goesOver_0 1 rfl rfl)
theorem dX3_goesOver_2 : decode cX3_goesOver 2 = .ok (.invokestatic 50, 3) := dk_184 0 50 (dk_at dksX3_goesOver_0 2 rfl rfl)
theorem dX3_goesOver_5 : decode cX3_goesOver 5 = .ok (.istore_n 3, 1) := dk_62 (dk_at dksX3_goesOver_0 5 rfl rfl)
theorem dX3_goesOver_6 : decode cX3_goesOver 6 = .ok (.iload_n 3, 1) := dk_29 (dk_at dksX3_goesOver_0 6 rfl rfl)
theorem dX3_goesOver_7 : decode cX3_goesOver 7 = .ok (.iconst (-1), 1) := dk_2 (dk_at dksX3_goesOver_0 7 rfl rfl)
theorem dX3_goesOver_8 : decode cX3_goesOver 8 = .ok (.if_icmp .eq 25, 3) := dk_159 0 25 (dk_at dksX3_goesOver_0 8 rfl rfl)
theorem dX3_goesOver_11 : decode cX3_goesOver 11 = .ok (.aload_n 0, 1) := dk_42 (dk_at dksX3_goesOver_0 11 rfl rfl)
theorem dX3_goesOver_12 : decode cX3_goesOver 12 = .ok (.getfield 3, 3) := dk_180 0 3 (dk_at dksX3_goesOver_0 12 rfl rfl)
theorem dX3_goesOver_15 : decode cX3_goesOver 15 = .ok (.getfield 33, 3) := dk_180 0 33 (dk_at dksX3_goesOver_0 15 rfl rfl)
theorem dX3_goesOver_18 : decode cX3_goesOver 18 = .ok (.iload_n 3, 1) := dk_29 (dk_at dksX3_goesOver_0 18 rfl rfl)
theorem dX3_goesOver_19 : decode cX3_goesOver 19 = .ok (.iaload, 1) := dk_46 (dk_at dksX3_goesOver_0 19 rfl rfl)
theorem dX3_goesOver_20 : decode cX3_goesOver 20 = .ok (.iconst 1, 1) := dk_4 (dk_at dksX3_goesOver_0 20 rfl rfl)
theorem dX3_goesOver_21 : decode cX3_goesOver 21 = .ok (.if_icmp .ne 12, 3) := dk_160 0 12 (dk_at dksX3_goesOver_0 21 rfl rfl)
theorem dX3_goesOver_24 : decode cX3_goesOver 24 = .ok (.aload_n 0, 1) := dk_42 (dk_at dksX3_goesOver_1 0 rfl rfl)
theorem dX3_goesOver_25 : decode cX3_goesOver 25 = .ok (.getfield 15, 3) := dk_180 0 15 (dk_at dksX3_goesOver_1 1 rfl rfl)
theorem dX3_goesOver_28 : decode cX3_goesOver 28 = .ok (.iload_n 3, 1) := dk_29 (dk_at dksX3_goesOver_1 4 rfl rfl)
theorem dX3_goesOver_29 : decode cX3_goesOver 29 = .ok (.iaload, 1) := dk_46 (dk_at dksX3_goesOver_1 5 rfl rfl)
theorem dX3_goesOver_30 : decode cX3_goesOver 30 = .ok (.ifCond .eq 4, 3) := dk_153 0 4 (dk_at dksX3_goesOver_1 6 rfl rfl)
theorem dX3_goesOver_33 : decode cX3_goesOver 33 = .ok (.return_, 1) := dk_177 (dk_at dksX3_goesOver_1 9 rfl rfl)
theorem dX3_goesOver_34 : decode cX3_goesOver 34 = .ok (.aload_n 0, 1) := dk_42 (dk_at dksX3_goesOver_1 10 rfl rfl)
theorem dX3_goesOver_35 : decode cX3_goesOver 35 = .ok (.getfield 3, 3) := dk_180 0 3 (dk_at dksX3_goesOver_1 11 rfl rfl)
theorem dX3_goesOver_38 : decode cX3_goesOver 38 = .ok (.getfield 96, 3) := dk_180 0 96 (dk_at dksX3_goesOver_1 14 rfl rfl)
theorem dX3_goesOver_41 : decode cX3_goesOver 41 = .ok (.bipush 115, 2) := dk_16 115 (dk_at dksX3_goesOver_1 17 rfl rfl)
theorem dX3_goesOver_43 : decode cX3_goesOver 43 = .ok (.aload_n 0, 1) := dk_42 (dk_at dksX3_goesOver_1 19 rfl rfl)
theorem dX3_goesOver_44 : decode cX3_goesOver 44 = .ok (.iload_n 3, 1) := dk_29 (dk_at dksX3_goesOver_1 20 rfl rfl)
theorem dX3_goesOver_45 : decode cX3_goesOver 45 = .ok (.aload_n 0, 1) := dk_42 (dk_at dksX3_goesOver_1 21 rfl rfl)
theorem dX3_goesOver_46 : decode cX3_goesOver 46 = .ok (.getfield 19, 3) := dk_180 0 19 (dk_at dksX3_goesOver_2 0 rfl rfl)
theorem dX3_goesOver_49 : decode cX3_goesOver 49 = .ok (.iload_n 1, 1) := dk_27 (dk_at dksX3_goesOver_2 3 rfl rfl)
theorem dX3_goesOver_50 : decode cX3_goesOver 50 = .ok (.iaload, 1) := dk_46 (dk_at dksX3_goesOver_2 4 rfl rfl)
theorem dX3_goesOver_51 : decode cX3_goesOver 51 = .ok (.iload_n 2, 1) := dk_28 (dk_at dksX3_goesOver_2 5 rfl rfl)
theorem dX3_goesOver_52 : decode cX3_goesOver 52 = .ok (.iconst 0, 1) := dk_3 (dk_at dksX3_goesOver_2 6 rfl rfl)
theorem dX3_goesOver_53 : decode cX3_goesOver 53 = .ok (.invokevirtual 100, 3) := dk_182 0 100 (dk_at dksX3_goesOver_2 7 rfl rfl)
theorem dX3_goesOver_56 : decode cX3_goesOver 56 = .ok (.invokevirtual 103, 3) := dk_182 0 103 (dk_at dksX3_goesOver_2 10 rfl rfl)
theorem dX3_goesOver_59 : decode cX3_goesOver 59 = .ok (.bipush 10, 2) := dk_16 10 (dk_at dksX3_goesOver_2 13 rfl rfl)
theorem dX3_goesOver_61 : decode cX3_goesOver 61 = .ok (.invokestatic 109, 3) := dk_184 0 109 (dk_at dksX3_goesOver_2 15 rfl rfl)
theorem dX3_goesOver_64 : decode cX3_goesOver 64 = .ok (.istore 4, 2) := dk_54 4 (dk_at dksX3_goesOver_2 18 rfl rfl)
theorem dX3_goesOver_66 : decode cX3_goesOver 66 = .ok (.aload_n 0, 1) := dk_42 (dk_at dksX3_goesOver_2 20 rfl rfl)
theorem dX3_goesOver_67 : decode cX3_goesOver 67 = .ok (.invokevirtual 112, 3) := dk_182 0 112 (dk_at dksX3_goesOver_2 21 rfl rfl)
theorem dX3_goesOver_70 : decode cX3_goesOver 70 = .ok (.iload 4, 2) := dk_21 4 (dk_at dksX3_goesOver_3 0 rfl rfl)
theorem dX3_goesOver_72 : decode cX3_goesOver 72 = .ok (.if_icmp .lt 4, 3) := dk_161 0 4 (dk_at dksX3_goesOver_3 2 rfl rfl)
theorem dX3_goesOver_75 : decode cX3_goesOver 75 = .ok (.return_, 1) := dk_177 (dk_at dksX3_goesOver_3 5 rfl rfl)
theorem dX3_goesOver_76 : decode cX3_goesOver 76 = .ok (.iconst 1, 1) := dk_4 (dk_at dksX3_goesOver_3 6 rfl rfl)
theorem dX3_goesOver_77 : decode cX3_goesOver 77 = .ok (.aload_n 0, 1) := dk_42 (dk_at dksX3_goesOver_3 7 rfl rfl)
theorem dX3_goesOver_78 : decode cX3_goesOver 78 = .ok (.getfield 3, 3) := dk_180 0 3 (dk_at dksX3_goesOver_3 8 rfl rfl)
theorem dX3_goesOver_81 : decode cX3_goesOver 81 = .ok (.getfield 96, 3) := dk_180 0 96 (dk_at dksX3_goesOver_3 11 rfl rfl)
theorem dX3_goesOver_84 : decode cX3_goesOver 84 = .ok (.bipush 98, 2) := dk_16 98 (dk_at dksX3_goesOver_3 14 rfl rfl)
theorem dX3_goesOver_86 : decode cX3_goesOver 86 = .ok (.aload_n 0, 1) := dk_42 (dk_at dksX3_goesOver_3 16 rfl rfl)
theorem dX3_goesOver_87 : decode cX3_goesOver 87 = .ok (.iload_n 3, 1) := dk_29 (dk_at dksX3_goesOver_3 17 rfl rfl)
theorem dX3_goesOver_88 : decode cX3_goesOver 88 = .ok (.iconst 0, 1) := dk_3 (dk_at dksX3_goesOver_3 18 rfl rfl)
theorem dX3_goesOver_89 : decode cX3_goesOver 89 = .ok (.iconst 0, 1) := dk_3 (dk_at dksX3_goesOver_3 19 rfl rfl)
theorem dX3_goesOver_90 : decode cX3_goesOver 90 = .ok (.iconst 0, 1) := dk_3 (dk_at dksX3_goesOver_3 20 rfl rfl)
theorem dX3_goesOver_91 : decode cX3_goesOver 91 = .ok (.invokevirtual 100, 3) := dk_182 0 100 (dk_at dksX3_goesOver_3 21 rfl rfl)
theorem dX3_goesOver_94 : decode cX3_goesOver 94 = .ok (.invokevirtual 103, 3) := dk_182 0 103 (dk_at dksX3_goesOver_4 0 rfl rfl)
theorem dX3_goesOver_97 : decode cX3_goesOver 97 = .ok (.bipush 9, 2) := dk_16 9 (dk_at dksX3_goesOver_4 3 rfl rfl)
theorem dX3_goesOver_99 : decode cX3_goesOver 99 = .ok (.invokestatic 109, 3) := dk_184 0 109 (dk_at dksX3_goesOver_4 5 rfl rfl)
theorem dX3_goesOver_102 : decode cX3_goesOver 102 = .ok (.invokestatic 116, 3) := dk_184 0 116 (dk_at dksX3_goesOver_4 8 rfl rfl)
theorem dX3_goesOver_105 : decode cX3_goesOver 105 = .ok (.istore 5, 2) := dk_54 5 (dk_at dksX3_goesOver_4 11 rfl rfl)
theorem dX3_goesOver_107 : decode cX3_goesOver 107 = .ok (.aload_n 0, 1) := dk_42 (dk_at dksX3_goesOver_4 13 rfl rfl)
theorem dX3_goesOver_108 : decode cX3_goesOver 108 = .ok (.iload_n 3, 1) := dk_29 (dk_at dksX3_goesOver_4 14 rfl rfl)
theorem dX3_goesOver_109 : decode cX3_goesOver 109 = .ok (.iload 5, 2) := dk_21 5 (dk_at dksX3_goesOver_4 15 rfl rfl)
theorem dX3_goesOver_111 : decode cX3_goesOver 111 = .ok (.invokevirtual 121, 3) := dk_182 0 121 (dk_at dksX3_goesOver_4 17 rfl rfl)
theorem dX3_goesOver_114 : decode cX3_goesOver 114 = .ok (.return_, 1) := dk_177 (dk_at dksX3_goesOver_4 20 rfl rfl)
abbrev cX3_asked : ByteArray := prog_6_method_14_code
def yX3_asked : MethodName := ⟨RX3, "asked", "(IIII)LInsuredFlame$Moment;"⟩
def dkwX3_asked_1 : List UInt8 := [182, 0, 86, 29, 42, 180, 0, 40, 42, 180, 0, 44, 21, 4, 182, 0, 92, 176]
abbrev dktX3_asked_1 : List UInt8 := dkwX3_asked_1 ++ []
def dkwX3_asked_0 : List UInt8 := [42, 180, 0, 3, 180, 0, 72, 27, 28, 42, 27, 182, 0, 76, 42, 27, 182, 0, 80, 42, 27, 182, 0, 83]
abbrev dktX3_asked_0 : List UInt8 := dkwX3_asked_0 ++ dktX3_asked_1
theorem dksX3_asked_0 : cX3_asked.data.toList.drop 0 = dktX3_asked_0 := by decide +kernel
theorem dksX3_asked_1 : cX3_asked.data.toList.drop 24 = dktX3_asked_1 := dk_seg dksX3_asked_0 24 rfl rfl
theorem dX3_asked_0 : decode cX3_asked 0 = .ok (.aload_n 0, 1) := dk_42 (dk_at dksX3_asked_0 0 rfl rfl)
theorem dX3_asked_1 : decode cX3_asked 1 = .ok (.getfield 3, 3) := dk_180 0 3 (dk_at dksX3_asked_0 1 rfl rfl)
theorem dX3_asked_4 : decode cX3_asked 4 = .ok (.getfield 72, 3) := dk_180 0 72 (dk_at dksX3_asked_0 4 rfl rfl)
theorem dX3_asked_7 : decode cX3_asked 7 = .ok (.iload_n 1, 1) := dk_27 (dk_at dksX3_asked_0 7 rfl rfl)
theorem dX3_asked_8 : decode cX3_asked 8 = .ok (.iload_n 2, 1) := dk_28 (dk_at dksX3_asked_0 8 rfl rfl)
theorem dX3_asked_9 : decode cX3_asked 9 = .ok (.aload_n 0, 1) := dk_42 (dk_at dksX3_asked_0 9 rfl rfl)
theorem dX3_asked_10 : decode cX3_asked 10 = .ok (.iload_n 1, 1) := dk_27 (dk_at dksX3_asked_0 10 rfl rfl)
theorem dX3_asked_11 : decode cX3_asked 11 = .ok (.invokevirtual 76, 3) := dk_182 0 76 (dk_at dksX3_asked_0 11 rfl rfl)
theorem dX3_asked_14 : decode cX3_asked 14 = .ok (.aload_n 0, 1) := dk_42 (dk_at dksX3_asked_0 14 rfl rfl)
theorem dX3_asked_15 : decode cX3_asked 15 = .ok (.iload_n 1, 1) := dk_27 (dk_at dksX3_asked_0 15 rfl rfl)
theorem dX3_asked_16 : decode cX3_asked 16 = .ok (.invokevirtual 80, 3) := dk_182 0 80 (dk_at dksX3_asked_0 16 rfl rfl)
theorem dX3_asked_19 : decode cX3_asked 19 = .ok (.aload_n 0, 1) := dk_42 (dk_at dksX3_asked_0 19 rfl rfl)
theorem dX3_asked_20 : decode cX3_asked 20 = .ok (.iload_n 1, 1) := dk_27 (dk_at dksX3_asked_0 20 rfl rfl)
theorem dX3_asked_21 : decode cX3_asked 21 = .ok (.invokevirtual 83, 3) := dk_182 0 83 (dk_at dksX3_asked_0 21 rfl rfl)
theorem dX3_asked_24 : decode cX3_asked 24 = .ok (.invokevirtual 86, 3) := dk_182 0 86 (dk_at dksX3_asked_1 0 rfl rfl)
theorem dX3_asked_27 : decode cX3_asked 27 = .ok (.iload_n 3, 1) := dk_29 (dk_at dksX3_asked_1 3 rfl rfl)
theorem dX3_asked_28 : decode cX3_asked 28 = .ok (.aload_n 0, 1) := dk_42 (dk_at dksX3_asked_1 4 rfl rfl)
theorem dX3_asked_29 : decode cX3_asked 29 = .ok (.getfield 40, 3) := dk_180 0 40 (dk_at dksX3_asked_1 5 rfl rfl)
theorem dX3_asked_32 : decode cX3_asked 32 = .ok (.aload_n 0, 1) := dk_42 (dk_at dksX3_asked_1 8 rfl rfl)
theorem dX3_asked_33 : decode cX3_asked 33 = .ok (.getfield 44, 3) := dk_180 0 44 (dk_at dksX3_asked_1 9 rfl rfl)
theorem dX3_asked_36 : decode cX3_asked 36 = .ok (.iload 4, 2) := dk_21 4 (dk_at dksX3_asked_1 12 rfl rfl)
theorem dX3_asked_38 : decode cX3_asked 38 = .ok (.invokevirtual 92, 3) := dk_182 0 92 (dk_at dksX3_asked_1 14 rfl rfl)
theorem dX3_asked_41 : decode cX3_asked 41 = .ok (.areturn, 1) := dk_176 (dk_at dksX3_asked_1 17 rfl rfl)
abbrev cX3_around : ByteArray := prog_6_method_7_code
def yX3_around : MethodName := ⟨RX3, "around", "(I)I"⟩
def dkwX3_around_1 : List UInt8 := [29, 184, 0, 50, 46, 4, 160, 0, 7, 4, 167, 0, 4, 3, 96, 61, 132, 3, 1, 167, 255, 217, 28, 172]
abbrev dktX3_around_1 : List UInt8 := dkwX3_around_1 ++ []
def dkwX3_around_0 : List UInt8 := [3, 61, 3, 62, 29, 7, 162, 0, 40, 28, 27, 29, 184, 0, 50, 2, 159, 0, 21, 42, 180, 0, 15, 27]
abbrev dktX3_around_0 : List UInt8 := dkwX3_around_0 ++ dktX3_around_1
theorem dksX3_around_0 : cX3_around.data.toList.drop 0 = dktX3_around_0 := by decide +kernel
theorem dksX3_around_1 : cX3_around.data.toList.drop 24 = dktX3_around_1 := dk_seg dksX3_around_0 24 rfl rfl
theorem dX3_around_0 : decode cX3_around 0 = .ok (.iconst 0, 1) := dk_3 (dk_at dksX3_around_0 0 rfl rfl)
theorem dX3_around_1 : decode cX3_around 1 = .ok (.istore_n 2, 1) := dk_61 (dk_at dksX3_around_0 1 rfl rfl)
theorem dX3_around_2 : decode cX3_around 2 = .ok (.iconst 0, 1) := dk_3 (dk_at dksX3_around_0 2 rfl rfl)
theorem dX3_around_3 : decode cX3_around 3 = .ok (.istore_n 3, 1) := dk_62 (dk_at dksX3_around_0 3 rfl rfl)
theorem dX3_around_4 : decode cX3_around 4 = .ok (.iload_n 3, 1) := dk_29 (dk_at dksX3_around_0 4 rfl rfl)
theorem dX3_around_5 : decode cX3_around 5 = .ok (.iconst 4, 1) := dk_7 (dk_at dksX3_around_0 5 rfl rfl)
theorem dX3_around_6 : decode cX3_around 6 = .ok (.if_icmp .ge 40, 3) := dk_162 0 40 (dk_at dksX3_around_0 6 rfl rfl)
theorem dX3_around_9 : decode cX3_around 9 = .ok (.iload_n 2, 1) := dk_28 (dk_at dksX3_around_0 9 rfl rfl)
theorem dX3_around_10 : decode cX3_around 10 = .ok (.iload_n 1, 1) := dk_27 (dk_at dksX3_around_0 10 rfl rfl)
theorem dX3_around_11 : decode cX3_around 11 = .ok (.iload_n 3, 1) := dk_29 (dk_at dksX3_around_0 11 rfl rfl)
theorem dX3_around_12 : decode cX3_around 12 = .ok (.invokestatic 50, 3) := dk_184 0 50 (dk_at dksX3_around_0 12 rfl rfl)
theorem dX3_around_15 : decode cX3_around 15 = .ok (.iconst (-1), 1) := dk_2 (dk_at dksX3_around_0 15 rfl rfl)
theorem dX3_around_16 : decode cX3_around 16 = .ok (.if_icmp .eq 21, 3) := dk_159 0 21 (dk_at dksX3_around_0 16 rfl rfl)
theorem dX3_around_19 : decode cX3_around 19 = .ok (.aload_n 0, 1) := dk_42 (dk_at dksX3_around_0 19 rfl rfl)
theorem dX3_around_20 : decode cX3_around 20 = .ok (.getfield 15, 3) := dk_180 0 15 (dk_at dksX3_around_0 20 rfl rfl)
theorem dX3_around_23 : decode cX3_around 23 = .ok (.iload_n 1, 1) := dk_27 (dk_at dksX3_around_0 23 rfl rfl)
theorem dX3_around_24 : decode cX3_around 24 = .ok (.iload_n 3, 1) := dk_29 (dk_at dksX3_around_1 0 rfl rfl)
theorem dX3_around_25 : decode cX3_around 25 = .ok (.invokestatic 50, 3) := dk_184 0 50 (dk_at dksX3_around_1 1 rfl rfl)
theorem dX3_around_28 : decode cX3_around 28 = .ok (.iaload, 1) := dk_46 (dk_at dksX3_around_1 4 rfl rfl)
theorem dX3_around_29 : decode cX3_around 29 = .ok (.iconst 1, 1) := dk_4 (dk_at dksX3_around_1 5 rfl rfl)
theorem dX3_around_30 : decode cX3_around 30 = .ok (.if_icmp .ne 7, 3) := dk_160 0 7 (dk_at dksX3_around_1 6 rfl rfl)
theorem dX3_around_33 : decode cX3_around 33 = .ok (.iconst 1, 1) := dk_4 (dk_at dksX3_around_1 9 rfl rfl)
theorem dX3_around_34 : decode cX3_around 34 = .ok (.goto 4, 3) := dk_167 0 4 (dk_at dksX3_around_1 10 rfl rfl)
theorem dX3_around_37 : decode cX3_around 37 = .ok (.iconst 0, 1) := dk_3 (dk_at dksX3_around_1 13 rfl rfl)
theorem dX3_around_38 : decode cX3_around 38 = .ok (.iadd, 1) := dk_96 (dk_at dksX3_around_1 14 rfl rfl)
theorem dX3_around_39 : decode cX3_around 39 = .ok (.istore_n 2, 1) := dk_61 (dk_at dksX3_around_1 15 rfl rfl)
theorem dX3_around_40 : decode cX3_around 40 = .ok (.iinc 3 1, 3) := dk_132 3 1 (dk_at dksX3_around_1 16 rfl rfl)
theorem dX3_around_43 : decode cX3_around 43 = .ok (.goto (-39), 3) := dk_167 255 217 (dk_at dksX3_around_1 19 rfl rfl)
theorem dX3_around_46 : decode cX3_around 46 = .ok (.iload_n 2, 1) := dk_28 (dk_at dksX3_around_1 22 rfl rfl)
theorem dX3_around_47 : decode cX3_around 47 = .ok (.ireturn, 1) := dk_172 (dk_at dksX3_around_1 23 rfl rfl)
abbrev cX3_valueAt : ByteArray := prog_6_method_9_code
def yX3_valueAt : MethodName := ⟨RX3, "valueAt", "(I)I"⟩
def dkwX3_valueAt_2 : List UInt8 := [180, 0, 61, 167, 0, 4, 3, 96, 61, 132, 5, 1, 167, 255, 211, 28, 172]
abbrev dktX3_valueAt_2 : List UInt8 := dkwX3_valueAt_2 ++ []
def dkwX3_valueAt_1 : List UInt8 := [50, 58, 6, 28, 25, 6, 27, 182, 0, 54, 153, 0, 19, 25, 6, 180, 0, 58, 154, 0, 11, 25, 6]
abbrev dktX3_valueAt_1 : List UInt8 := dkwX3_valueAt_1 ++ dktX3_valueAt_2
def dkwX3_valueAt_0 : List UInt8 := [3, 61, 42, 180, 0, 28, 78, 45, 190, 54, 4, 3, 54, 5, 21, 5, 21, 4, 162, 0, 44, 45, 21, 5]
abbrev dktX3_valueAt_0 : List UInt8 := dkwX3_valueAt_0 ++ dktX3_valueAt_1
theorem dksX3_valueAt_0 : cX3_valueAt.data.toList.drop 0 = dktX3_valueAt_0 := by decide +kernel
theorem dksX3_valueAt_1 : cX3_valueAt.data.toList.drop 24 = dktX3_valueAt_1 := dk_seg dksX3_valueAt_0 24 rfl rfl
theorem dksX3_valueAt_2 : cX3_valueAt.data.toList.drop 47 = dktX3_valueAt_2 := dk_seg dksX3_valueAt_1 23 rfl rfl
theorem dX3_valueAt_0 : decode cX3_valueAt 0 = .ok (.iconst 0, 1) := dk_3 (dk_at dksX3_valueAt_0 0 rfl rfl)
theorem dX3_valueAt_1 : decode cX3_valueAt 1 = .ok (.istore_n 2, 1) := dk_61 (dk_at dksX3_valueAt_0 1 rfl rfl)
theorem dX3_valueAt_2 : decode cX3_valueAt 2 = .ok (.aload_n 0, 1) := dk_42 (dk_at dksX3_valueAt_0 2 rfl rfl)
theorem dX3_valueAt_3 : decode cX3_valueAt 3 = .ok (.getfield 28, 3) := dk_180 0 28 (dk_at dksX3_valueAt_0 3 rfl rfl)
theorem dX3_valueAt_6 : decode cX3_valueAt 6 = .ok (.astore_n 3, 1) := dk_78 (dk_at dksX3_valueAt_0 6 rfl rfl)
theorem dX3_valueAt_7 : decode cX3_valueAt 7 = .ok (.aload_n 3, 1) := dk_45 (dk_at dksX3_valueAt_0 7 rfl rfl)
theorem dX3_valueAt_8 : decode cX3_valueAt 8 = .ok (.arraylength, 1) := dk_190 (dk_at dksX3_valueAt_0 8 rfl rfl)
theorem dX3_valueAt_9 : decode cX3_valueAt 9 = .ok (.istore 4, 2) := dk_54 4 (dk_at dksX3_valueAt_0 9 rfl rfl)
theorem dX3_valueAt_11 : decode cX3_valueAt 11 = .ok (.iconst 0, 1) := dk_3 (dk_at dksX3_valueAt_0 11 rfl rfl)
theorem dX3_valueAt_12 : decode cX3_valueAt 12 = .ok (.istore 5, 2) := dk_54 5 (dk_at dksX3_valueAt_0 12 rfl rfl)
theorem dX3_valueAt_14 : decode cX3_valueAt 14 = .ok (.iload 5, 2) := dk_21 5 (dk_at dksX3_valueAt_0 14 rfl rfl)
theorem dX3_valueAt_16 : decode cX3_valueAt 16 = .ok (.iload 4, 2) := dk_21 4 (dk_at dksX3_valueAt_0 16 rfl rfl)
theorem dX3_valueAt_18 : decode cX3_valueAt 18 = .ok (.if_icmp .ge 44, 3) := dk_162 0 44 (dk_at dksX3_valueAt_0 18 rfl rfl)
theorem dX3_valueAt_21 : decode cX3_valueAt 21 = .ok (.aload_n 3, 1) := dk_45 (dk_at dksX3_valueAt_0 21 rfl rfl)
theorem dX3_valueAt_22 : decode cX3_valueAt 22 = .ok (.iload 5, 2) := dk_21 5 (dk_at dksX3_valueAt_0 22 rfl rfl)
theorem dX3_valueAt_24 : decode cX3_valueAt 24 = .ok (.aaload, 1) := dk_50 (dk_at dksX3_valueAt_1 0 rfl rfl)
theorem dX3_valueAt_25 : decode cX3_valueAt 25 = .ok (.astore 6, 2) := dk_58 6 (dk_at dksX3_valueAt_1 1 rfl rfl)
theorem dX3_valueAt_27 : decode cX3_valueAt 27 = .ok (.iload_n 2, 1) := dk_28 (dk_at dksX3_valueAt_1 3 rfl rfl)
theorem dX3_valueAt_28 : decode cX3_valueAt 28 = .ok (.aload 6, 2) := dk_25 6 (dk_at dksX3_valueAt_1 4 rfl rfl)
theorem dX3_valueAt_30 : decode cX3_valueAt 30 = .ok (.iload_n 1, 1) := dk_27 (dk_at dksX3_valueAt_1 6 rfl rfl)
theorem dX3_valueAt_31 : decode cX3_valueAt 31 = .ok (.invokevirtual 54, 3) := dk_182 0 54 (dk_at dksX3_valueAt_1 7 rfl rfl)
theorem dX3_valueAt_34 : decode cX3_valueAt 34 = .ok (.ifCond .eq 19, 3) := dk_153 0 19 (dk_at dksX3_valueAt_1 10 rfl rfl)
theorem dX3_valueAt_37 : decode cX3_valueAt 37 = .ok (.aload 6, 2) := dk_25 6 (dk_at dksX3_valueAt_1 13 rfl rfl)
theorem dX3_valueAt_39 : decode cX3_valueAt 39 = .ok (.getfield 58, 3) := dk_180 0 58 (dk_at dksX3_valueAt_1 15 rfl rfl)
theorem dX3_valueAt_42 : decode cX3_valueAt 42 = .ok (.ifCond .ne 11, 3) := dk_154 0 11 (dk_at dksX3_valueAt_1 18 rfl rfl)
theorem dX3_valueAt_45 : decode cX3_valueAt 45 = .ok (.aload 6, 2) := dk_25 6 (dk_at dksX3_valueAt_1 21 rfl rfl)
theorem dX3_valueAt_47 : decode cX3_valueAt 47 = .ok (.getfield 61, 3) := dk_180 0 61 (dk_at dksX3_valueAt_2 0 rfl rfl)
theorem dX3_valueAt_50 : decode cX3_valueAt 50 = .ok (.goto 4, 3) := dk_167 0 4 (dk_at dksX3_valueAt_2 3 rfl rfl)
theorem dX3_valueAt_53 : decode cX3_valueAt 53 = .ok (.iconst 0, 1) := dk_3 (dk_at dksX3_valueAt_2 6 rfl rfl)
theorem dX3_valueAt_54 : decode cX3_valueAt 54 = .ok (.iadd, 1) := dk_96 (dk_at dksX3_valueAt_2 7 rfl rfl)
theorem dX3_valueAt_55 : decode cX3_valueAt 55 = .ok (.istore_n 2, 1) := dk_61 (dk_at dksX3_valueAt_2 8 rfl rfl)
theorem dX3_valueAt_56 : decode cX3_valueAt 56 = .ok (.iinc 5 1, 3) := dk_132 5 1 (dk_at dksX3_valueAt_2 9 rfl rfl)
theorem dX3_valueAt_59 : decode cX3_valueAt 59 = .ok (.goto (-45), 3) := dk_167 255 211 (dk_at dksX3_valueAt_2 12 rfl rfl)
theorem dX3_valueAt_62 : decode cX3_valueAt 62 = .ok (.iload_n 2, 1) := dk_28 (dk_at dksX3_valueAt_2 15 rfl rfl)
theorem dX3_valueAt_63 : decode cX3_valueAt 63 = .ok (.ireturn, 1) := dk_172 (dk_at dksX3_valueAt_2 16 rfl rfl)
abbrev cX3_sumsAt : ByteArray := prog_6_method_10_code
def yX3_sumsAt : MethodName := ⟨RX3, "sumsAt", "(I)I"⟩
def dkwX3_sumsAt_2 : List UInt8 := [132, 5, 1, 167, 255, 219, 28, 172]
abbrev dktX3_sumsAt_2 : List UInt8 := dkwX3_sumsAt_2 ++ []
def dkwX3_sumsAt_1 : List UInt8 := [50, 58, 6, 28, 25, 6, 27, 182, 0, 54, 153, 0, 11, 25, 6, 180, 0, 58, 167, 0, 4, 3, 96, 61]
abbrev dktX3_sumsAt_1 : List UInt8 := dkwX3_sumsAt_1 ++ dktX3_sumsAt_2
def dkwX3_sumsAt_0 : List UInt8 := [3, 61, 42, 180, 0, 28, 78, 45, 190, 54, 4, 3, 54, 5, 21, 5, 21, 4, 162, 0, 36, 45, 21, 5]
abbrev dktX3_sumsAt_0 : List UInt8 := dkwX3_sumsAt_0 ++ dktX3_sumsAt_1
theorem dksX3_sumsAt_0 : cX3_sumsAt.data.toList.drop 0 = dktX3_sumsAt_0 := by decide +kernel
theorem dksX3_sumsAt_1 : cX3_sumsAt.data.toList.drop 24 = dktX3_sumsAt_1 := dk_seg dksX3_sumsAt_0 24 rfl rfl
theorem dksX3_sumsAt_2 : cX3_sumsAt.data.toList.drop 48 = dktX3_sumsAt_2 := dk_seg dksX3_sumsAt_1 24 rfl rfl
theorem dX3_sumsAt_0 : decode cX3_sumsAt 0 = .ok (.iconst 0, 1) := dk_3 (dk_at dksX3_sumsAt_0 0 rfl rfl)
theorem dX3_sumsAt_1 : decode cX3_sumsAt 1 = .ok (.istore_n 2, 1) := dk_61 (dk_at dksX3_sumsAt_0 1 rfl rfl)
theorem dX3_sumsAt_2 : decode cX3_sumsAt 2 = .ok (.aload_n 0, 1) := dk_42 (dk_at dksX3_sumsAt_0 2 rfl rfl)
theorem dX3_sumsAt_3 : decode cX3_sumsAt 3 = .ok (.getfield 28, 3) := dk_180 0 28 (dk_at dksX3_sumsAt_0 3 rfl rfl)
theorem dX3_sumsAt_6 : decode cX3_sumsAt 6 = .ok (.astore_n 3, 1) := dk_78 (dk_at dksX3_sumsAt_0 6 rfl rfl)
theorem dX3_sumsAt_7 : decode cX3_sumsAt 7 = .ok (.aload_n 3, 1) := dk_45 (dk_at dksX3_sumsAt_0 7 rfl rfl)
theorem dX3_sumsAt_8 : decode cX3_sumsAt 8 = .ok (.arraylength, 1) := dk_190 (dk_at dksX3_sumsAt_0 8 rfl rfl)
theorem dX3_sumsAt_9 : decode cX3_sumsAt 9 = .ok (.istore 4, 2) := dk_54 4 (dk_at dksX3_sumsAt_0 9 rfl rfl)
theorem dX3_sumsAt_11 : decode cX3_sumsAt 11 = .ok (.iconst 0, 1) := dk_3 (dk_at dksX3_sumsAt_0 11 rfl rfl)
theorem dX3_sumsAt_12 : decode cX3_sumsAt 12 = .ok (.istore 5, 2) := dk_54 5 (dk_at dksX3_sumsAt_0 12 rfl rfl)
theorem dX3_sumsAt_14 : decode cX3_sumsAt 14 = .ok (.iload 5, 2) := dk_21 5 (dk_at dksX3_sumsAt_0 14 rfl rfl)
theorem dX3_sumsAt_16 : decode cX3_sumsAt 16 = .ok (.iload 4, 2) := dk_21 4 (dk_at dksX3_sumsAt_0 16 rfl rfl)
theorem dX3_sumsAt_18 : decode cX3_sumsAt 18 = .ok (.if_icmp .ge 36, 3) := dk_162 0 36 (dk_at dksX3_sumsAt_0 18 rfl rfl)
theorem dX3_sumsAt_21 : decode cX3_sumsAt 21 = .ok (.aload_n 3, 1) := dk_45 (dk_at dksX3_sumsAt_0 21 rfl rfl)
theorem dX3_sumsAt_22 : decode cX3_sumsAt 22 = .ok (.iload 5, 2) := dk_21 5 (dk_at dksX3_sumsAt_0 22 rfl rfl)
theorem dX3_sumsAt_24 : decode cX3_sumsAt 24 = .ok (.aaload, 1) := dk_50 (dk_at dksX3_sumsAt_1 0 rfl rfl)
theorem dX3_sumsAt_25 : decode cX3_sumsAt 25 = .ok (.astore 6, 2) := dk_58 6 (dk_at dksX3_sumsAt_1 1 rfl rfl)
theorem dX3_sumsAt_27 : decode cX3_sumsAt 27 = .ok (.iload_n 2, 1) := dk_28 (dk_at dksX3_sumsAt_1 3 rfl rfl)
theorem dX3_sumsAt_28 : decode cX3_sumsAt 28 = .ok (.aload 6, 2) := dk_25 6 (dk_at dksX3_sumsAt_1 4 rfl rfl)
theorem dX3_sumsAt_30 : decode cX3_sumsAt 30 = .ok (.iload_n 1, 1) := dk_27 (dk_at dksX3_sumsAt_1 6 rfl rfl)
theorem dX3_sumsAt_31 : decode cX3_sumsAt 31 = .ok (.invokevirtual 54, 3) := dk_182 0 54 (dk_at dksX3_sumsAt_1 7 rfl rfl)
theorem dX3_sumsAt_34 : decode cX3_sumsAt 34 = .ok (.ifCond .eq 11, 3) := dk_153 0 11 (dk_at dksX3_sumsAt_1 10 rfl rfl)
theorem dX3_sumsAt_37 : decode cX3_sumsAt 37 = .ok (.aload 6, 2) := dk_25 6 (dk_at dksX3_sumsAt_1 13 rfl rfl)
theorem dX3_sumsAt_39 : decode cX3_sumsAt 39 = .ok (.getfield 58, 3) := dk_180 0 58 (dk_at dksX3_sumsAt_1 15 rfl rfl)
theorem dX3_sumsAt_42 : decode cX3_sumsAt 42 = .ok (.goto 4, 3) := dk_167 0 4 (dk_at dksX3_sumsAt_1 18 rfl rfl)
theorem dX3_sumsAt_45 : decode cX3_sumsAt 45 = .ok (.iconst 0, 1) := dk_3 (dk_at dksX3_sumsAt_1 21 rfl rfl)
theorem dX3_sumsAt_46 : decode cX3_sumsAt 46 = .ok (.iadd, 1) := dk_96 (dk_at dksX3_sumsAt_1 22 rfl rfl)
theorem dX3_sumsAt_47 : decode cX3_sumsAt 47 = .ok (.istore_n 2, 1) := dk_61 (dk_at dksX3_sumsAt_1 23 rfl rfl)
theorem dX3_sumsAt_48 : decode cX3_sumsAt 48 = .ok (.iinc 5 1, 3) := dk_132 5 1 (dk_at dksX3_sumsAt_2 0 rfl rfl)
theorem dX3_sumsAt_51 : decode cX3_sumsAt 51 = .ok (.goto (-37), 3) := dk_167 255 219 (dk_at dksX3_sumsAt_2 3 rfl rfl)
theorem dX3_sumsAt_54 : decode cX3_sumsAt 54 = .ok (.iload_n 2, 1) := dk_28 (dk_at dksX3_sumsAt_2 6 rfl rfl)
theorem dX3_sumsAt_55 : decode cX3_sumsAt 55 = .ok (.ireturn, 1) := dk_172 (dk_at dksX3_sumsAt_2 7 rfl rfl)
abbrev cX3_draw : ByteArray := prog_6_method_13_code
def yX3_draw : MethodName := ⟨RX3, "draw", "()I"⟩
def dkwX3_draw_1 : List UInt8 := [16, 10, 112, 172]
abbrev dktX3_draw_1 : List UInt8 := dkwX3_draw_1 ++ []
def dkwX3_draw_0 : List UInt8 := [42, 17, 98, 85, 42, 180, 0, 47, 104, 17, 54, 25, 96, 18, 71, 112, 181, 0, 47, 42, 180, 0, 47]
abbrev dktX3_draw_0 : List UInt8 := dkwX3_draw_0 ++ dktX3_draw_1
theorem dksX3_draw_0 : cX3_draw.data.toList.drop 0 = dktX3_draw_0 := by decide +kernel
theorem dksX3_draw_1 : cX3_draw.data.toList.drop 23 = dktX3_draw_1 := dk_seg dksX3_draw_0 23 rfl rfl
theorem dX3_draw_0 : decode cX3_draw 0 = .ok (.aload_n 0, 1) := dk_42 (dk_at dksX3_draw_0 0 rfl rfl)
theorem dX3_draw_1 : decode cX3_draw 1 = .ok (.sipush 25173, 3) := dk_17 98 85 (dk_at dksX3_draw_0 1 rfl rfl)
theorem dX3_draw_4 : decode cX3_draw 4 = .ok (.aload_n 0, 1) := dk_42 (dk_at dksX3_draw_0 4 rfl rfl)
theorem dX3_draw_5 : decode cX3_draw 5 = .ok (.getfield 47, 3) := dk_180 0 47 (dk_at dksX3_draw_0 5 rfl rfl)
theorem dX3_draw_8 : decode cX3_draw 8 = .ok (.imul, 1) := dk_104 (dk_at dksX3_draw_0 8 rfl rfl)
theorem dX3_draw_9 : decode cX3_draw 9 = .ok (.sipush 13849, 3) := dk_17 54 25 (dk_at dksX3_draw_0 9 rfl rfl)
theorem dX3_draw_12 : decode cX3_draw 12 = .ok (.iadd, 1) := dk_96 (dk_at dksX3_draw_0 12 rfl rfl)
theorem dX3_draw_13 : decode cX3_draw 13 = .ok (.ldc 71, 2) := dk_18 71 (dk_at dksX3_draw_0 13 rfl rfl)
theorem dX3_draw_15 : decode cX3_draw 15 = .ok (.irem, 1) := dk_112 (dk_at dksX3_draw_0 15 rfl rfl)
theorem dX3_draw_16 : decode cX3_draw 16 = .ok (.putfield 47, 3) := dk_181 0 47 (dk_at dksX3_draw_0 16 rfl rfl)
theorem dX3_draw_19 : decode cX3_draw 19 = .ok (.aload_n 0, 1) := dk_42 (dk_at dksX3_draw_0 19 rfl rfl)
theorem dX3_draw_20 : decode cX3_draw 20 = .ok (.getfield 47, 3) := dk_180 0 47 (dk_at dksX3_draw_0 20 rfl rfl)
theorem dX3_draw_23 : decode cX3_draw 23 = .ok (.bipush 10, 2) := dk_16 10 (dk_at dksX3_draw_1 0 rfl rfl)
theorem dX3_draw_25 : decode cX3_draw 25 = .ok (.irem, 1) := dk_112 (dk_at dksX3_draw_1 2 rfl rfl)
theorem dX3_draw_26 : decode cX3_draw 26 = .ok (.ireturn, 1) := dk_172 (dk_at dksX3_draw_1 3 rfl rfl)
abbrev cX3_those : ByteArray := prog_6_method_6_code
def yX3_those : MethodName := ⟨RX3, "those", "(I)I"⟩
def dkwX3_those_1 : List UInt8 := [167, 0, 4, 3, 96, 61, 132, 3, 1, 167, 255, 229, 28, 172]
abbrev dktX3_those_1 : List UInt8 := dkwX3_those_1 ++ []
def dkwX3_those_0 : List UInt8 := [3, 61, 3, 62, 29, 16, 96, 162, 0, 27, 28, 42, 180, 0, 15, 29, 46, 27, 160, 0, 7, 4]
abbrev dktX3_those_0 : List UInt8 := dkwX3_those_0 ++ dktX3_those_1
theorem dksX3_those_0 : cX3_those.data.toList.drop 0 = dktX3_those_0 := by decide +kernel
theorem dksX3_those_1 : cX3_those.data.toList.drop 22 = dktX3_those_1 := dk_seg dksX3_those_0 22 rfl rfl
theorem dX3_those_0 : decode cX3_those 0 = .ok (.iconst 0, 1) := dk_3 (dk_at dksX3_those_0 0 rfl rfl)
theorem dX3_those_1 : decode cX3_those 1 = .ok (.istore_n 2, 1) := dk_61 (dk_at dksX3_those_0 1 rfl rfl)
theorem dX3_those_2 : decode cX3_those 2 = .ok (.iconst 0, 1) := dk_3 (dk_at dksX3_those_0 2 rfl rfl)
theorem dX3_those_3 : decode cX3_those 3 = .ok (.istore_n 3, 1) := dk_62 (dk_at dksX3_those_0 3 rfl rfl)
theorem dX3_those_4 : decode cX3_those 4 = .ok (.iload_n 3, 1) := dk_29 (dk_at dksX3_those_0 4 rfl rfl)
theorem dX3_those_5 : decode cX3_those 5 = .ok (.bipush 96, 2) := dk_16 96 (dk_at dksX3_those_0 5 rfl rfl)
theorem dX3_those_7 : decode cX3_those 7 = .ok (.if_icmp .ge 27, 3) := dk_162 0 27 (dk_at dksX3_those_0 7 rfl rfl)
theorem dX3_those_10 : decode cX3_those 10 = .ok (.iload_n 2, 1) := dk_28 (dk_at dksX3_those_0 10 rfl rfl)
theorem dX3_those_11 : decode cX3_those 11 = .ok (.aload_n 0, 1) := dk_42 (dk_at dksX3_those_0 11 rfl rfl)
theorem dX3_those_12 : decode cX3_those 12 = .ok (.getfield 15, 3) := dk_180 0 15 (dk_at dksX3_those_0 12 rfl rfl)
theorem dX3_those_15 : decode cX3_those 15 = .ok (.iload_n 3, 1) := dk_29 (dk_at dksX3_those_0 15 rfl rfl)
theorem dX3_those_16 : decode cX3_those 16 = .ok (.iaload, 1) := dk_46 (dk_at dksX3_those_0 16 rfl rfl)
theorem dX3_those_17 : decode cX3_those 17 = .ok (.iload_n 1, 1) := dk_27 (dk_at dksX3_those_0 17 rfl rfl)
theorem dX3_those_18 : decode cX3_those 18 = .ok (.if_icmp .ne 7, 3) := dk_160 0 7 (dk_at dksX3_those_0 18 rfl rfl)
theorem dX3_those_21 : decode cX3_those 21 = .ok (.iconst 1, 1) := dk_4 (dk_at dksX3_those_0 21 rfl rfl)
theorem dX3_those_22 : decode cX3_those 22 = .ok (.goto 4, 3) := dk_167 0 4 (dk_at dksX3_those_1 0 rfl rfl)
theorem dX3_those_25 : decode cX3_those 25 = .ok (.iconst 0, 1) := dk_3 (dk_at dksX3_those_1 3 rfl rfl)
theorem dX3_those_26 : decode cX3_those 26 = .ok (.iadd, 1) := dk_96 (dk_at dksX3_those_1 4 rfl rfl)
theorem dX3_those_27 : decode cX3_those 27 = .ok (.istore_n 2, 1) := dk_61 (dk_at dksX3_those_1 5 rfl rfl)
theorem dX3_those_28 : decode cX3_those 28 = .ok (.iinc 3 1, 3) := dk_132 3 1 (dk_at dksX3_those_1 6 rfl rfl)
theorem dX3_those_31 : decode cX3_those 31 = .ok (.goto (-27), 3) := dk_167 255 229 (dk_at dksX3_those_1 9 rfl rfl)
theorem dX3_those_34 : decode cX3_those 34 = .ok (.iload_n 2, 1) := dk_28 (dk_at dksX3_those_1 12 rfl rfl)
theorem dX3_those_35 : decode cX3_those 35 = .ok (.ireturn, 1) := dk_172 (dk_at dksX3_those_1 13 rfl rfl)
abbrev cX3_lost : ByteArray := prog_6_method_12_code
def yX3_lost : MethodName := ⟨RX3, "lost", "()I"⟩
def dkwX3_lost_2 : List UInt8 := [167, 0, 4, 3, 96, 60, 132, 4, 1, 167, 255, 213, 27, 172]
abbrev dktX3_lost_2 : List UInt8 := dkwX3_lost_2 ++ []
def dkwX3_lost_1 : List UInt8 := [58, 5, 27, 25, 5, 180, 0, 64, 153, 0, 19, 25, 5, 180, 0, 68, 153, 0, 11, 25, 5, 180, 0, 61]
abbrev dktX3_lost_1 : List UInt8 := dkwX3_lost_1 ++ dktX3_lost_2
def dkwX3_lost_0 : List UInt8 := [3, 60, 42, 180, 0, 28, 77, 44, 190, 62, 3, 54, 4, 21, 4, 29, 162, 0, 43, 44, 21, 4, 50]
abbrev dktX3_lost_0 : List UInt8 := dkwX3_lost_0 ++ dktX3_lost_1
theorem dksX3_lost_0 : cX3_lost.data.toList.drop 0 = dktX3_lost_0 := by decide +kernel
theorem dksX3_lost_1 : cX3_lost.data.toList.drop 23 = dktX3_lost_1 := dk_seg dksX3_lost_0 23 rfl rfl
theorem dksX3_lost_2 : cX3_lost.data.toList.drop 47 = dktX3_lost_2 := dk_seg dksX3_lost_1 24 rfl rfl
theorem dX3_lost_0 : decode cX3_lost 0 = .ok (.iconst 0, 1) := dk_3 (dk_at dksX3_lost_0 0 rfl rfl)
theorem dX3_lost_1 : decode cX3_lost 1 = .ok (.istore_n 1, 1) := dk_60 (dk_at dksX3_lost_0 1 rfl rfl)
theorem dX3_lost_2 : decode cX3_lost 2 = .ok (.aload_n 0, 1) := dk_42 (dk_at dksX3_lost_0 2 rfl rfl)
theorem dX3_lost_3 : decode cX3_lost 3 = .ok (.getfield 28, 3) := dk_180 0 28 (dk_at dksX3_lost_0 3 rfl rfl)
theorem dX3_lost_6 : decode cX3_lost 6 = .ok (.astore_n 2, 1) := dk_77 (dk_at dksX3_lost_0 6 rfl rfl)
theorem dX3_lost_7 : decode cX3_lost 7 = .ok (.aload_n 2, 1) := dk_44 (dk_at dksX3_lost_0 7 rfl rfl)
theorem dX3_lost_8 : decode cX3_lost 8 = .ok (.arraylength, 1) := dk_190 (dk_at dksX3_lost_0 8 rfl rfl)
theorem dX3_lost_9 : decode cX3_lost 9 = .ok (.istore_n 3, 1) := dk_62 (dk_at dksX3_lost_0 9 rfl rfl)
theorem dX3_lost_10 : decode cX3_lost 10 = .ok (.iconst 0, 1) := dk_3 (dk_at dksX3_lost_0 10 rfl rfl)
theorem dX3_lost_11 : decode cX3_lost 11 = .ok (.istore 4, 2) := dk_54 4 (dk_at dksX3_lost_0 11 rfl rfl)
theorem dX3_lost_13 : decode cX3_lost 13 = .ok (.iload 4, 2) := dk_21 4 (dk_at dksX3_lost_0 13 rfl rfl)
theorem dX3_lost_15 : decode cX3_lost 15 = .ok (.iload_n 3, 1) := dk_29 (dk_at dksX3_lost_0 15 rfl rfl)
theorem dX3_lost_16 : decode cX3_lost 16 = .ok (.if_icmp .ge 43, 3) := dk_162 0 43 (dk_at dksX3_lost_0 16 rfl rfl)
theorem dX3_lost_19 : decode cX3_lost 19 = .ok (.aload_n 2, 1) := dk_44 (dk_at dksX3_lost_0 19 rfl rfl)
theorem dX3_lost_20 : decode cX3_lost 20 = .ok (.iload 4, 2) := dk_21 4 (dk_at dksX3_lost_0 20 rfl rfl)
theorem dX3_lost_22 : decode cX3_lost 22 = .ok (.aaload, 1) := dk_50 (dk_at dksX3_lost_0 22 rfl rfl)
theorem dX3_lost_23 : decode cX3_lost 23 = .ok (.astore 5, 2) := dk_58 5 (dk_at dksX3_lost_1 0 rfl rfl)
theorem dX3_lost_25 : decode cX3_lost 25 = .ok (.iload_n 1, 1) := dk_27 (dk_at dksX3_lost_1 2 rfl rfl)
theorem dX3_lost_26 : decode cX3_lost 26 = .ok (.aload 5, 2) := dk_25 5 (dk_at dksX3_lost_1 3 rfl rfl)
theorem dX3_lost_28 : decode cX3_lost 28 = .ok (.getfield 64, 3) := dk_180 0 64 (dk_at dksX3_lost_1 5 rfl rfl)
theorem dX3_lost_31 : decode cX3_lost 31 = .ok (.ifCond .eq 19, 3) := dk_153 0 19 (dk_at dksX3_lost_1 8 rfl rfl)
theorem dX3_lost_34 : decode cX3_lost 34 = .ok (.aload 5, 2) := dk_25 5 (dk_at dksX3_lost_1 11 rfl rfl)
theorem dX3_lost_36 : decode cX3_lost 36 = .ok (.getfield 68, 3) := dk_180 0 68 (dk_at dksX3_lost_1 13 rfl rfl)
theorem dX3_lost_39 : decode cX3_lost 39 = .ok (.ifCond .eq 11, 3) := dk_153 0 11 (dk_at dksX3_lost_1 16 rfl rfl)
theorem dX3_lost_42 : decode cX3_lost 42 = .ok (.aload 5, 2) := dk_25 5 (dk_at dksX3_lost_1 19 rfl rfl)
theorem dX3_lost_44 : decode cX3_lost 44 = .ok (.getfield 61, 3) := dk_180 0 61 (dk_at dksX3_lost_1 21 rfl rfl)
theorem dX3_lost_47 : decode cX3_lost 47 = .ok (.goto 4, 3) := dk_167 0 4 (dk_at dksX3_lost_2 0 rfl rfl)
theorem dX3_lost_50 : decode cX3_lost 50 = .ok (.iconst 0, 1) := dk_3 (dk_at dksX3_lost_2 3 rfl rfl)
theorem dX3_lost_51 : decode cX3_lost 51 = .ok (.iadd, 1) := dk_96 (dk_at dksX3_lost_2 4 rfl rfl)
theorem dX3_lost_52 : decode cX3_lost 52 = .ok (.istore_n 1, 1) := dk_60 (dk_at dksX3_lost_2 5 rfl rfl)
theorem dX3_lost_53 : decode cX3_lost 53 = .ok (.iinc 4 1, 3) := dk_132 4 1 (dk_at dksX3_lost_2 6 rfl rfl)
theorem dX3_lost_56 : decode cX3_lost 56 = .ok (.goto (-43), 3) := dk_167 255 213 (dk_at dksX3_lost_2 9 rfl rfl)
theorem dX3_lost_59 : decode cX3_lost 59 = .ok (.iload_n 1, 1) := dk_27 (dk_at dksX3_lost_2 12 rfl rfl)
theorem dX3_lost_60 : decode cX3_lost 60 = .ok (.ireturn, 1) := dk_172 (dk_at dksX3_lost_2 13 rfl rfl)
abbrev cX3_gone : ByteArray := prog_6_method_11_code
def yX3_gone : MethodName := ⟨RX3, "gone", "()I"⟩
def dkwX3_gone_2 : List UInt8 := [167, 255, 213, 27, 172]
abbrev dktX3_gone_2 : List UInt8 := dkwX3_gone_2 ++ []
def dkwX3_gone_1 : List UInt8 := [180, 0, 28, 28, 50, 180, 0, 68, 153, 0, 9, 4, 28, 120, 167, 0, 4, 3, 128, 60, 132, 2, 1]
abbrev dktX3_gone_1 : List UInt8 := dkwX3_gone_1 ++ dktX3_gone_2
def dkwX3_gone_0 : List UInt8 := [3, 60, 3, 61, 28, 16, 24, 162, 0, 43, 27, 42, 180, 0, 28, 28, 50, 180, 0, 64, 153, 0, 21, 42]
abbrev dktX3_gone_0 : List UInt8 := dkwX3_gone_0 ++ dktX3_gone_1
theorem dksX3_gone_0 : cX3_gone.data.toList.drop 0 = dktX3_gone_0 := by decide +kernel
theorem dksX3_gone_1 : cX3_gone.data.toList.drop 24 = dktX3_gone_1 := dk_seg dksX3_gone_0 24 rfl rfl
theorem dksX3_gone_2 : cX3_gone.data.toList.drop 47 = dktX3_gone_2 := dk_seg dksX3_gone_1 23 rfl rfl
theorem dX3_gone_0 : decode cX3_gone 0 = .ok (.iconst 0, 1) := dk_3 (dk_at dksX3_gone_0 0 rfl rfl)
theorem dX3_gone_1 : decode cX3_gone 1 = .ok (.istore_n 1, 1) := dk_60 (dk_at dksX3_gone_0 1 rfl rfl)
theorem dX3_gone_2 : decode cX3_gone 2 = .ok (.iconst 0, 1) := dk_3 (dk_at dksX3_gone_0 2 rfl rfl)
theorem dX3_gone_3 : decode cX3_gone 3 = .ok (.istore_n 2, 1) := dk_61 (dk_at dksX3_gone_0 3 rfl rfl)
theorem dX3_gone_4 : decode cX3_gone 4 = .ok (.iload_n 2, 1) := dk_28 (dk_at dksX3_gone_0 4 rfl rfl)
theorem dX3_gone_5 : decode cX3_gone 5 = .ok (.bipush 24, 2) := dk_16 24 (dk_at dksX3_gone_0 5 rfl rfl)
theorem dX3_gone_7 : decode cX3_gone 7 = .ok (.if_icmp .ge 43, 3) := dk_162 0 43 (dk_at dksX3_gone_0 7 rfl rfl)
theorem dX3_gone_10 : decode cX3_gone 10 = .ok (.iload_n 1, 1) := dk_27 (dk_at dksX3_gone_0 10 rfl rfl)
theorem dX3_gone_11 : decode cX3_gone 11 = .ok (.aload_n 0, 1) := dk_42 (dk_at dksX3_gone_0 11 rfl rfl)
theorem dX3_gone_12 : decode cX3_gone 12 = .ok (.getfield 28, 3) := dk_180 0 28 (dk_at dksX3_gone_0 12 rfl rfl)
theorem dX3_gone_15 : decode cX3_gone 15 = .ok (.iload_n 2, 1) := dk_28 (dk_at dksX3_gone_0 15 rfl rfl)
theorem dX3_gone_16 : decode cX3_gone 16 = .ok (.aaload, 1) := dk_50 (dk_at dksX3_gone_0 16 rfl rfl)
theorem dX3_gone_17 : decode cX3_gone 17 = .ok (.getfield 64, 3) := dk_180 0 64 (dk_at dksX3_gone_0 17 rfl rfl)
theorem dX3_gone_20 : decode cX3_gone 20 = .ok (.ifCond .eq 21, 3) := dk_153 0 21 (dk_at dksX3_gone_0 20 rfl rfl)
theorem dX3_gone_23 : decode cX3_gone 23 = .ok (.aload_n 0, 1) := dk_42 (dk_at dksX3_gone_0 23 rfl rfl)
theorem dX3_gone_24 : decode cX3_gone 24 = .ok (.getfield 28, 3) := dk_180 0 28 (dk_at dksX3_gone_1 0 rfl rfl)
theorem dX3_gone_27 : decode cX3_gone 27 = .ok (.iload_n 2, 1) := dk_28 (dk_at dksX3_gone_1 3 rfl rfl)
theorem dX3_gone_28 : decode cX3_gone 28 = .ok (.aaload, 1) := dk_50 (dk_at dksX3_gone_1 4 rfl rfl)
theorem dX3_gone_29 : decode cX3_gone 29 = .ok (.getfield 68, 3) := dk_180 0 68 (dk_at dksX3_gone_1 5 rfl rfl)
theorem dX3_gone_32 : decode cX3_gone 32 = .ok (.ifCond .eq 9, 3) := dk_153 0 9 (dk_at dksX3_gone_1 8 rfl rfl)
theorem dX3_gone_35 : decode cX3_gone 35 = .ok (.iconst 1, 1) := dk_4 (dk_at dksX3_gone_1 11 rfl rfl)
theorem dX3_gone_36 : decode cX3_gone 36 = .ok (.iload_n 2, 1) := dk_28 (dk_at dksX3_gone_1 12 rfl rfl)
theorem dX3_gone_37 : decode cX3_gone 37 = .ok (.ishl, 1) := dk_120 (dk_at dksX3_gone_1 13 rfl rfl)
theorem dX3_gone_38 : decode cX3_gone 38 = .ok (.goto 4, 3) := dk_167 0 4 (dk_at dksX3_gone_1 14 rfl rfl)
theorem dX3_gone_41 : decode cX3_gone 41 = .ok (.iconst 0, 1) := dk_3 (dk_at dksX3_gone_1 17 rfl rfl)
theorem dX3_gone_42 : decode cX3_gone 42 = .ok (.ior, 1) := dk_128 (dk_at dksX3_gone_1 18 rfl rfl)
theorem dX3_gone_43 : decode cX3_gone 43 = .ok (.istore_n 1, 1) := dk_60 (dk_at dksX3_gone_1 19 rfl rfl)
theorem dX3_gone_44 : decode cX3_gone 44 = .ok (.iinc 2 1, 3) := dk_132 2 1 (dk_at dksX3_gone_1 20 rfl rfl)
theorem dX3_gone_47 : decode cX3_gone 47 = .ok (.goto (-43), 3) := dk_167 255 213 (dk_at dksX3_gone_2 0 rfl rfl)
theorem dX3_gone_50 : decode cX3_gone 50 = .ok (.iload_n 1, 1) := dk_27 (dk_at dksX3_gone_2 3 rfl rfl)
theorem dX3_gone_51 : decode cX3_gone 51 = .ok (.ireturn, 1) := dk_172 (dk_at dksX3_gone_2 4 rfl rfl)
abbrev cX3_thingsAt : ByteArray := prog_6_method_8_code
def yX3_thingsAt : MethodName := ⟨RX3, "thingsAt", "(I)I"⟩
def dkwX3_thingsAt_1 : List UInt8 := [4, 29, 120, 167, 0, 4, 3, 128, 61, 132, 3, 1, 167, 255, 224, 28, 172]
abbrev dktX3_thingsAt_1 : List UInt8 := dkwX3_thingsAt_1 ++ []
def dkwX3_thingsAt_0 : List UInt8 := [3, 61, 3, 62, 29, 16, 24, 162, 0, 32, 28, 42, 180, 0, 28, 29, 50, 27, 182, 0, 54, 153, 0, 9]
abbrev dktX3_thingsAt_0 : List UInt8 := dkwX3_thingsAt_0 ++ dktX3_thingsAt_1
theorem dksX3_thingsAt_0 : cX3_thingsAt.data.toList.drop 0 = dktX3_thingsAt_0 := by decide +kernel
theorem dksX3_thingsAt_1 : cX3_thingsAt.data.toList.drop 24 = dktX3_thingsAt_1 := dk_seg dksX3_thingsAt_0 24 rfl rfl
theorem dX3_thingsAt_0 : decode cX3_thingsAt 0 = .ok (.iconst 0, 1) := dk_3 (dk_at dksX3_thingsAt_0 0 rfl rfl)
theorem dX3_thingsAt_1 : decode cX3_thingsAt 1 = .ok (.istore_n 2, 1) := dk_61 (dk_at dksX3_thingsAt_0 1 rfl rfl)
theorem dX3_thingsAt_2 : decode cX3_thingsAt 2 = .ok (.iconst 0, 1) := dk_3 (dk_at dksX3_thingsAt_0 2 rfl rfl)
theorem dX3_thingsAt_3 : decode cX3_thingsAt 3 = .ok (.istore_n 3, 1) := dk_62 (dk_at dksX3_thingsAt_0 3 rfl rfl)
theorem dX3_thingsAt_4 : decode cX3_thingsAt 4 = .ok (.iload_n 3, 1) := dk_29 (dk_at dksX3_thingsAt_0 4 rfl rfl)
theorem dX3_thingsAt_5 : decode cX3_thingsAt 5 = .ok (.bipush 24, 2) := dk_16 24 (dk_at dksX3_thingsAt_0 5 rfl rfl)
theorem dX3_thingsAt_7 : decode cX3_thingsAt 7 = .ok (.if_icmp .ge 32, 3) := dk_162 0 32 (dk_at dksX3_thingsAt_0 7 rfl rfl)
theorem dX3_thingsAt_10 : decode cX3_thingsAt 10 = .ok (.iload_n 2, 1) := dk_28 (dk_at dksX3_thingsAt_0 10 rfl rfl)
theorem dX3_thingsAt_11 : decode cX3_thingsAt 11 = .ok (.aload_n 0, 1) := dk_42 (dk_at dksX3_thingsAt_0 11 rfl rfl)
theorem dX3_thingsAt_12 : decode cX3_thingsAt 12 = .ok (.getfield 28, 3) := dk_180 0 28 (dk_at dksX3_thingsAt_0 12 rfl rfl)
theorem dX3_thingsAt_15 : decode cX3_thingsAt 15 = .ok (.iload_n 3, 1) := dk_29 (dk_at dksX3_thingsAt_0 15 rfl rfl)
theorem dX3_thingsAt_16 : decode cX3_thingsAt 16 = .ok (.aaload, 1) := dk_50 (dk_at dksX3_thingsAt_0 16 rfl rfl)
theorem dX3_thingsAt_17 : decode cX3_thingsAt 17 = .ok (.iload_n 1, 1) := dk_27 (dk_at dksX3_thingsAt_0 17 rfl rfl)
theorem dX3_thingsAt_18 : decode cX3_thingsAt 18 = .ok (.invokevirtual 54, 3) := dk_182 0 54 (dk_at dksX3_thingsAt_0 18 rfl rfl)
theorem dX3_thingsAt_21 : decode cX3_thingsAt 21 = .ok (.ifCond .eq 9, 3) := dk_153 0 9 (dk_at dksX3_thingsAt_0 21 rfl rfl)
theorem dX3_thingsAt_24 : decode cX3_thingsAt 24 = .ok (.iconst 1, 1) := dk_4 (dk_at dksX3_thingsAt_1 0 rfl rfl)
theorem dX3_thingsAt_25 : decode cX3_thingsAt 25 = .ok (.iload_n 3, 1) := dk_29 (dk_at dksX3_thingsAt_1 1 rfl rfl)
theorem dX3_thingsAt_26 : decode cX3_thingsAt 26 = .ok (.ishl, 1) := dk_120 (dk_at dksX3_thingsAt_1 2 rfl rfl)
theorem dX3_thingsAt_27 : decode cX3_thingsAt 27 = .ok (.goto 4, 3) := dk_167 0 4 (dk_at dksX3_thingsAt_1 3 rfl rfl)
theorem dX3_thingsAt_30 : decode cX3_thingsAt 30 = .ok (.iconst 0, 1) := dk_3 (dk_at dksX3_thingsAt_1 6 rfl rfl)
theorem dX3_thingsAt_31 : decode cX3_thingsAt 31 = .ok (.ior, 1) := dk_128 (dk_at dksX3_thingsAt_1 7 rfl rfl)
theorem dX3_thingsAt_32 : decode cX3_thingsAt 32 = .ok (.istore_n 2, 1) := dk_61 (dk_at dksX3_thingsAt_1 8 rfl rfl)
theorem dX3_thingsAt_33 : decode cX3_thingsAt 33 = .ok (.iinc 3 1, 3) := dk_132 3 1 (dk_at dksX3_thingsAt_1 9 rfl rfl)
theorem dX3_thingsAt_36 : decode cX3_thingsAt 36 = .ok (.goto (-32), 3) := dk_167 255 224 (dk_at dksX3_thingsAt_1 12 rfl rfl)
theorem dX3_thingsAt_39 : decode cX3_thingsAt 39 = .ok (.iload_n 2, 1) := dk_28 (dk_at dksX3_thingsAt_1 15 rfl rfl)
theorem dX3_thingsAt_40 : decode cX3_thingsAt 40 = .ok (.ireturn, 1) := dk_172 (dk_at dksX3_thingsAt_1 16 rfl rfl)
theorem q117 : (Jvm.Cond.initialized "InsuredFlame$Fire") ∈ lw_all := lw_g (lw_at lw_m1 4 rfl) rfl
theorem q192 : (Jvm.Cond.instantiable "InsuredFlame$Fire" (8 : Nat)) ∈ lw_all := lw_g (lw_at lw_m1 79 rfl) rfl
theorem q194 : (Jvm.Cond.instanceMethod ({ cls := "InsuredFlame$Fire", name := "<init>", desc := "(LInsuredFlame;)V" } : Jvm.MethodName)) ∈ lw_all := lw_g (lw_at lw_m1 81 rfl) rfl
theorem q195 : (Jvm.Cond.code ({ cls := "InsuredFlame$Fire", name := "<init>", desc := "(LInsuredFlame;)V" } : Jvm.MethodName) prog_6_method_1_code (3 : Nat) (Option.none : Option Jvm.ClassFile.FieldType)) ∈ lw_all := lw_g (lw_at lw_m1 82 rfl) rfl
theorem q196 : (Jvm.Cond.methodLink "InsuredFlame$Fire" (9 : Nat) ({ cls := "java/lang/Object", name := "<init>", desc := "()V" } : Jvm.MethodName)) ∈ lw_all := lw_g (lw_at lw_m1 83 rfl) rfl
theorem q197 : (Jvm.Cond.classLink "InsuredFlame$Fire" (26 : Nat) "InsuredFlame$Thing") ∈ lw_all := lw_g (lw_at lw_m1 84 rfl) rfl
theorem q200 : (Jvm.Cond.methodLinkNest "InsuredFlame$Fire" (32 : Nat) ({ cls := "InsuredFlame$Thing", name := "<init>", desc := "()V" } : Jvm.MethodName) "InsuredFlame") ∈ lw_tbl := lw_at lw_m1 87 rfl
theorem q209 : (Jvm.Cond.fieldLinkNest "InsuredFlame$Fire" (61 : Nat) "InsuredFlame$Thing" "value" "I" "InsuredFlame") ∈ lw_tbl := lw_at lw_m1 96 rfl
theorem q213 : (Jvm.Cond.fieldLinkNest "InsuredFlame$Fire" (58 : Nat) "InsuredFlame$Thing" "sum" "I" "InsuredFlame") ∈ lw_tbl := lw_at lw_m1 100 rfl
theorem q218 : (Jvm.Cond.fieldLinkNest "InsuredFlame$Fire" (64 : Nat) "InsuredFlame$Thing" "isTold" "Z" "InsuredFlame") ∈ lw_tbl := lw_at lw_m1 105 rfl
theorem q221 : (Jvm.Cond.fieldLinkNest "InsuredFlame$Fire" (68 : Nat) "InsuredFlame$Thing" "isGone" "Z" "InsuredFlame") ∈ lw_tbl := lw_at lw_m1 108 rfl
theorem q235 : (Jvm.Cond.fieldLink "InsuredFlame$Fire" (15 : Nat) "InsuredFlame$Fire" "status" "[I") ∈ lw_all := lw_g (lw_at lw_m1 122 rfl) rfl
theorem q238 : (Jvm.Cond.fieldLink "InsuredFlame$Fire" (19 : Nat) "InsuredFlame$Fire" "left" "[I") ∈ lw_all := lw_g (lw_at lw_m1 125 rfl) rfl
theorem q240 : (Jvm.Cond.fieldLink "InsuredFlame$Fire" (22 : Nat) "InsuredFlame$Fire" "burned" "[Z") ∈ lw_all := lw_g (lw_at lw_m1 127 rfl) rfl
theorem q241 : (Jvm.Cond.fieldLink "InsuredFlame$Fire" (28 : Nat) "InsuredFlame$Fire" "things" "[LInsuredFlame$Thing;") ∈ lw_all := lw_g (lw_at lw_m1 128 rfl) rfl
theorem q244 : (Jvm.Cond.fieldLink "InsuredFlame$Fire" (40 : Nat) "InsuredFlame$Fire" "wind" "I") ∈ lw_all := lw_g (lw_at lw_m1 131 rfl) rfl
theorem q247 : (Jvm.Cond.fieldLink "InsuredFlame$Fire" (44 : Nat) "InsuredFlame$Fire" "minute" "I") ∈ lw_all := lw_g (lw_at lw_m1 134 rfl) rfl
theorem q249 : (Jvm.Cond.fieldLink "InsuredFlame$Fire" (47 : Nat) "InsuredFlame$Fire" "x" "I") ∈ lw_all := lw_g (lw_at lw_m1 136 rfl) rfl
theorem q251 : (Jvm.Cond.fieldLink "InsuredFlame$Fire" (3 : Nat) "InsuredFlame$Fire" "this$0" "LInsuredFlame;") ∈ lw_all := lw_g (lw_at lw_m1 138 rfl) rfl
theorem q252 : (Jvm.Cond.laysFinal "InsuredFlame$Fire" "InsuredFlame$Fire" "status" "[I") ∈ lw_all := lw_g (lw_at lw_m1 139 rfl) rfl
theorem q253 : (Jvm.Cond.soleField "InsuredFlame$Fire" "status") ∈ lw_all := lw_g (lw_at lw_m1 140 rfl) rfl
theorem q254 : (Jvm.Cond.laysFinal "InsuredFlame$Fire" "InsuredFlame$Fire" "left" "[I") ∈ lw_all := lw_g (lw_at lw_m1 141 rfl) rfl
theorem q255 : (Jvm.Cond.soleField "InsuredFlame$Fire" "left") ∈ lw_all := lw_g (lw_at lw_m1 142 rfl) rfl
theorem q256 : (Jvm.Cond.laysFinal "InsuredFlame$Fire" "InsuredFlame$Fire" "burned" "[Z") ∈ lw_all := lw_g (lw_at lw_m1 143 rfl) rfl
theorem q257 : (Jvm.Cond.soleField "InsuredFlame$Fire" "burned") ∈ lw_all := lw_g (lw_at lw_m1 144 rfl) rfl
theorem q258 : (Jvm.Cond.laysFinal "InsuredFlame$Fire" "InsuredFlame$Fire" "things" "[LInsuredFlame$Thing;") ∈ lw_all := lw_g (lw_at lw_m1 145 rfl) rfl
theorem q259 : (Jvm.Cond.soleField "InsuredFlame$Fire" "things") ∈ lw_all := lw_g (lw_at lw_m1 146 rfl) rfl
theorem q260 : (Jvm.Cond.lays "InsuredFlame$Fire" "InsuredFlame$Fire" "wind" "I") ∈ lw_all := lw_g (lw_at lw_m1 147 rfl) rfl
theorem q261 : (Jvm.Cond.soleField "InsuredFlame$Fire" "wind") ∈ lw_all := lw_g (lw_at lw_m1 148 rfl) rfl
theorem q262 : (Jvm.Cond.lays "InsuredFlame$Fire" "InsuredFlame$Fire" "minute" "I") ∈ lw_all := lw_g (lw_at lw_m1 149 rfl) rfl
theorem q263 : (Jvm.Cond.soleField "InsuredFlame$Fire" "minute") ∈ lw_all := lw_g (lw_at lw_m1 150 rfl) rfl
theorem q264 : (Jvm.Cond.lays "InsuredFlame$Fire" "InsuredFlame$Fire" "x" "I") ∈ lw_all := lw_g (lw_at lw_m1 151 rfl) rfl
theorem q265 : (Jvm.Cond.soleField "InsuredFlame$Fire" "x") ∈ lw_all := lw_g (lw_at lw_m1 152 rfl) rfl
theorem q266 : (Jvm.Cond.laysFinal "InsuredFlame$Fire" "InsuredFlame$Fire" "this$0" "LInsuredFlame;") ∈ lw_all := lw_g (lw_at lw_m1 153 rfl) rfl
theorem q267 : (Jvm.Cond.soleField "InsuredFlame$Fire" "this$0") ∈ lw_all := lw_g (lw_at lw_m1 154 rfl) rfl
theorem q268 : (Jvm.Cond.superclass "InsuredFlame$Fire" "java/lang/Object") ∈ lw_all := lw_g (lw_at lw_m1 155 rfl) rfl
theorem q300 : (Jvm.Cond.fieldLinkNest "InsuredFlame$Fire" (33 : Nat) "InsuredFlame" "kinds" "[I" "InsuredFlame") ∈ lw_tbl := lw_at lw_m1 187 rfl
theorem q304 : (Jvm.Cond.fieldLinkNest "InsuredFlame$Fire" (72 : Nat) "InsuredFlame" "moment" "LInsuredFlame$Moment;" "InsuredFlame") ∈ lw_tbl := lw_at lw_m1 191 rfl
theorem q313 : (Jvm.Cond.fieldLinkNest "InsuredFlame$Fire" (96 : Nat) "InsuredFlame" "law" "LInsuredFlame$Text;" "InsuredFlame") ∈ lw_tbl := lw_at lw_m1 200 rfl
theorem q753 : (Jvm.Cond.instanceMethod ({ cls := "InsuredFlame$Fire", name := "isNew", desc := "()V" } : Jvm.MethodName)) ∈ lw_all := lw_g (lw_at lw_m3 160 rfl) rfl
theorem q754 : (Jvm.Cond.selects "InsuredFlame$Fire" ({ cls := "InsuredFlame$Fire", name := "isNew", desc := "()V" } : Jvm.MethodName) ({ cls := "InsuredFlame$Fire", name := "isNew", desc := "()V" } : Jvm.MethodName)) ∈ lw_all := lw_g (lw_at lw_m3 161 rfl) rfl
theorem q755 : (Jvm.Cond.code ({ cls := "InsuredFlame$Fire", name := "isNew", desc := "()V" } : Jvm.MethodName) prog_6_method_3_code (2 : Nat) (Option.none : Option Jvm.ClassFile.FieldType)) ∈ lw_all := lw_g (lw_at lw_m3 162 rfl) rfl
theorem q761 : (Jvm.Cond.instanceMethod ({ cls := "InsuredFlame$Fire", name := "takes", desc := "(LInsuredFlame$Fire;)LInsuredFlame$Fire;" } : Jvm.MethodName)) ∈ lw_all := lw_g (lw_at lw_m3 168 rfl) rfl
theorem q762 : (Jvm.Cond.selects "InsuredFlame$Fire" ({ cls := "InsuredFlame$Fire", name := "takes", desc := "(LInsuredFlame$Fire;)LInsuredFlame$Fire;" } : Jvm.MethodName) ({ cls := "InsuredFlame$Fire", name := "takes", desc := "(LInsuredFlame$Fire;)LInsuredFlame$Fire;" } : Jvm.MethodName)) ∈ lw_all := lw_g (lw_at lw_m3 169 rfl) rfl
theorem q763 : (Jvm.Cond.code ({ cls := "InsuredFlame$Fire", name := "takes", desc := "(LInsuredFlame$Fire;)LInsuredFlame$Fire;" } : Jvm.MethodName) prog_6_method_2_code (3 : Nat) (Option.some (Jvm.ClassFile.FieldType.object "InsuredFlame$Fire"))) ∈ lw_all := lw_g (lw_at lw_m3 170 rfl) rfl
theorem q764 : (Jvm.Cond.methodLink "InsuredFlame$Fire" (36 : Nat) ({ cls := "InsuredFlame$Thing", name := "takes", desc := "(LInsuredFlame$Thing;)V" } : Jvm.MethodName)) ∈ lw_all := lw_g (lw_at lw_m3 171 rfl) rfl
theorem q833 : (Jvm.Cond.instanceMethod ({ cls := "InsuredFlame$Fire", name := "lights", desc := "(II)V" } : Jvm.MethodName)) ∈ lw_all := lw_g (lw_at lw_m4 0 rfl) rfl
theorem q834 : (Jvm.Cond.selects "InsuredFlame$Fire" ({ cls := "InsuredFlame$Fire", name := "lights", desc := "(II)V" } : Jvm.MethodName) ({ cls := "InsuredFlame$Fire", name := "lights", desc := "(II)V" } : Jvm.MethodName)) ∈ lw_all := lw_g (lw_at lw_m4 1 rfl) rfl
theorem q835 : (Jvm.Cond.code ({ cls := "InsuredFlame$Fire", name := "lights", desc := "(II)V" } : Jvm.MethodName) prog_6_method_4_code (3 : Nat) (Option.none : Option Jvm.ClassFile.FieldType)) ∈ lw_all := lw_g (lw_at lw_m4 2 rfl) rfl
theorem q841 : (Jvm.Cond.instanceMethod ({ cls := "InsuredFlame$Fire", name := "waters", desc := "(I)V" } : Jvm.MethodName)) ∈ lw_all := lw_g (lw_at lw_m4 8 rfl) rfl
theorem q842 : (Jvm.Cond.selects "InsuredFlame$Fire" ({ cls := "InsuredFlame$Fire", name := "waters", desc := "(I)V" } : Jvm.MethodName) ({ cls := "InsuredFlame$Fire", name := "waters", desc := "(I)V" } : Jvm.MethodName)) ∈ lw_all := lw_g (lw_at lw_m4 9 rfl) rfl
theorem q843 : (Jvm.Cond.code ({ cls := "InsuredFlame$Fire", name := "waters", desc := "(I)V" } : Jvm.MethodName) prog_6_method_5_code (2 : Nat) (Option.none : Option Jvm.ClassFile.FieldType)) ∈ lw_all := lw_g (lw_at lw_m4 10 rfl) rfl
theorem q855 : (Jvm.Cond.instanceMethod ({ cls := "InsuredFlame$Fire", name := "goes", desc := "(I)LInsuredFlame$Fire;" } : Jvm.MethodName)) ∈ lw_all := lw_g (lw_at lw_m4 22 rfl) rfl
theorem q856 : (Jvm.Cond.selects "InsuredFlame$Fire" ({ cls := "InsuredFlame$Fire", name := "goes", desc := "(I)LInsuredFlame$Fire;" } : Jvm.MethodName) ({ cls := "InsuredFlame$Fire", name := "goes", desc := "(I)LInsuredFlame$Fire;" } : Jvm.MethodName)) ∈ lw_all := lw_g (lw_at lw_m4 23 rfl) rfl
theorem q857 : (Jvm.Cond.code ({ cls := "InsuredFlame$Fire", name := "goes", desc := "(I)LInsuredFlame$Fire;" } : Jvm.MethodName) prog_6_method_18_code (3 : Nat) (Option.some (Jvm.ClassFile.FieldType.object "InsuredFlame$Fire"))) ∈ lw_all := lw_g (lw_at lw_m4 24 rfl) rfl
theorem q858 : (Jvm.Cond.methodLink "InsuredFlame$Fire" (136 : Nat) ({ cls := "InsuredFlame$Fire", name := "minuteGoes", desc := "()V" } : Jvm.MethodName)) ∈ lw_all := lw_g (lw_at lw_m4 25 rfl) rfl
theorem q859 : (Jvm.Cond.instanceMethod ({ cls := "InsuredFlame$Fire", name := "minuteGoes", desc := "()V" } : Jvm.MethodName)) ∈ lw_all := lw_g (lw_at lw_m4 26 rfl) rfl
theorem q860 : (Jvm.Cond.selects "InsuredFlame$Fire" ({ cls := "InsuredFlame$Fire", name := "minuteGoes", desc := "()V" } : Jvm.MethodName) ({ cls := "InsuredFlame$Fire", name := "minuteGoes", desc := "()V" } : Jvm.MethodName)) ∈ lw_all := lw_g (lw_at lw_m4 27 rfl) rfl
theorem q861 : (Jvm.Cond.code ({ cls := "InsuredFlame$Fire", name := "minuteGoes", desc := "()V" } : Jvm.MethodName) prog_6_method_17_code (2 : Nat) (Option.none : Option Jvm.ClassFile.FieldType)) ∈ lw_all := lw_g (lw_at lw_m4 28 rfl) rfl
theorem q862 : (Jvm.Cond.methodLink "InsuredFlame$Fire" (132 : Nat) ({ cls := "InsuredFlame$Fire", name := "burns", desc := "(I)V" } : Jvm.MethodName)) ∈ lw_all := lw_g (lw_at lw_m4 29 rfl) rfl
theorem q863 : (Jvm.Cond.privateMethod ({ cls := "InsuredFlame$Fire", name := "burns", desc := "(I)V" } : Jvm.MethodName)) ∈ lw_tbl := lw_at lw_m4 30 rfl
theorem q864 : (Jvm.Cond.instanceMethod ({ cls := "InsuredFlame$Fire", name := "burns", desc := "(I)V" } : Jvm.MethodName)) ∈ lw_all := lw_g (lw_at lw_m4 31 rfl) rfl
theorem q865 : (Jvm.Cond.code ({ cls := "InsuredFlame$Fire", name := "burns", desc := "(I)V" } : Jvm.MethodName) prog_6_method_16_code (6 : Nat) (Option.none : Option Jvm.ClassFile.FieldType)) ∈ lw_all := lw_g (lw_at lw_m4 32 rfl) rfl
theorem q866 : (Jvm.Cond.methodLink "InsuredFlame$Fire" (54 : Nat) ({ cls := "InsuredFlame$Thing", name := "isAt", desc := "(I)Z" } : Jvm.MethodName)) ∈ lw_all := lw_g (lw_at lw_m4 33 rfl) rfl
theorem q870 : (Jvm.Cond.methodLink "InsuredFlame$Fire" (125 : Nat) ({ cls := "InsuredFlame$Fire", name := "goesOver", desc := "(II)V" } : Jvm.MethodName)) ∈ lw_all := lw_g (lw_at lw_m4 37 rfl) rfl
theorem q871 : (Jvm.Cond.privateMethod ({ cls := "InsuredFlame$Fire", name := "goesOver", desc := "(II)V" } : Jvm.MethodName)) ∈ lw_tbl := lw_at lw_m4 38 rfl
theorem q872 : (Jvm.Cond.instanceMethod ({ cls := "InsuredFlame$Fire", name := "goesOver", desc := "(II)V" } : Jvm.MethodName)) ∈ lw_all := lw_g (lw_at lw_m4 39 rfl) rfl
theorem q873 : (Jvm.Cond.code ({ cls := "InsuredFlame$Fire", name := "goesOver", desc := "(II)V" } : Jvm.MethodName) prog_6_method_15_code (6 : Nat) (Option.none : Option Jvm.ClassFile.FieldType)) ∈ lw_all := lw_g (lw_at lw_m4 40 rfl) rfl
theorem q874 : (Jvm.Cond.methodLinkNest "InsuredFlame$Fire" (50 : Nat) ({ cls := "InsuredFlame", name := "next", desc := "(II)I" } : Jvm.MethodName) "InsuredFlame") ∈ lw_tbl := lw_at lw_m4 41 rfl
theorem q887 : (Jvm.Cond.methodLink "InsuredFlame$Fire" (100 : Nat) ({ cls := "InsuredFlame$Fire", name := "asked", desc := "(IIII)LInsuredFlame$Moment;" } : Jvm.MethodName)) ∈ lw_all := lw_g (lw_at lw_m4 54 rfl) rfl
theorem q888 : (Jvm.Cond.privateMethod ({ cls := "InsuredFlame$Fire", name := "asked", desc := "(IIII)LInsuredFlame$Moment;" } : Jvm.MethodName)) ∈ lw_tbl := lw_at lw_m4 55 rfl
theorem q889 : (Jvm.Cond.instanceMethod ({ cls := "InsuredFlame$Fire", name := "asked", desc := "(IIII)LInsuredFlame$Moment;" } : Jvm.MethodName)) ∈ lw_all := lw_g (lw_at lw_m4 56 rfl) rfl
theorem q890 : (Jvm.Cond.code ({ cls := "InsuredFlame$Fire", name := "asked", desc := "(IIII)LInsuredFlame$Moment;" } : Jvm.MethodName) prog_6_method_14_code (5 : Nat) (Option.some (Jvm.ClassFile.FieldType.object "InsuredFlame$Moment"))) ∈ lw_all := lw_g (lw_at lw_m4 57 rfl) rfl
theorem q891 : (Jvm.Cond.methodLink "InsuredFlame$Fire" (76 : Nat) ({ cls := "InsuredFlame$Fire", name := "around", desc := "(I)I" } : Jvm.MethodName)) ∈ lw_all := lw_g (lw_at lw_m4 58 rfl) rfl
theorem q892 : (Jvm.Cond.instanceMethod ({ cls := "InsuredFlame$Fire", name := "around", desc := "(I)I" } : Jvm.MethodName)) ∈ lw_all := lw_g (lw_at lw_m4 59 rfl) rfl
theorem q893 : (Jvm.Cond.selects "InsuredFlame$Fire" ({ cls := "InsuredFlame$Fire", name := "around", desc := "(I)I" } : Jvm.MethodName) ({ cls := "InsuredFlame$Fire", name := "around", desc := "(I)I" } : Jvm.MethodName)) ∈ lw_all := lw_g (lw_at lw_m4 60 rfl) rfl
theorem q894 : (Jvm.Cond.code ({ cls := "InsuredFlame$Fire", name := "around", desc := "(I)I" } : Jvm.MethodName) prog_6_method_7_code (4 : Nat) (Option.some Jvm.ClassFile.FieldType.int)) ∈ lw_all := lw_g (lw_at lw_m4 61 rfl) rfl
theorem q895 : (Jvm.Cond.methodLink "InsuredFlame$Fire" (80 : Nat) ({ cls := "InsuredFlame$Fire", name := "valueAt", desc := "(I)I" } : Jvm.MethodName)) ∈ lw_all := lw_g (lw_at lw_m4 62 rfl) rfl
theorem q896 : (Jvm.Cond.instanceMethod ({ cls := "InsuredFlame$Fire", name := "valueAt", desc := "(I)I" } : Jvm.MethodName)) ∈ lw_all := lw_g (lw_at lw_m4 63 rfl) rfl
theorem q897 : (Jvm.Cond.selects "InsuredFlame$Fire" ({ cls := "InsuredFlame$Fire", name := "valueAt", desc := "(I)I" } : Jvm.MethodName) ({ cls := "InsuredFlame$Fire", name := "valueAt", desc := "(I)I" } : Jvm.MethodName)) ∈ lw_all := lw_g (lw_at lw_m4 64 rfl) rfl
theorem q898 : (Jvm.Cond.code ({ cls := "InsuredFlame$Fire", name := "valueAt", desc := "(I)I" } : Jvm.MethodName) prog_6_method_9_code (7 : Nat) (Option.some Jvm.ClassFile.FieldType.int)) ∈ lw_all := lw_g (lw_at lw_m4 65 rfl) rfl
theorem q899 : (Jvm.Cond.methodLink "InsuredFlame$Fire" (83 : Nat) ({ cls := "InsuredFlame$Fire", name := "sumsAt", desc := "(I)I" } : Jvm.MethodName)) ∈ lw_all := lw_g (lw_at lw_m4 66 rfl) rfl
theorem q900 : (Jvm.Cond.instanceMethod ({ cls := "InsuredFlame$Fire", name := "sumsAt", desc := "(I)I" } : Jvm.MethodName)) ∈ lw_all := lw_g (lw_at lw_m4 67 rfl) rfl
theorem q901 : (Jvm.Cond.selects "InsuredFlame$Fire" ({ cls := "InsuredFlame$Fire", name := "sumsAt", desc := "(I)I" } : Jvm.MethodName) ({ cls := "InsuredFlame$Fire", name := "sumsAt", desc := "(I)I" } : Jvm.MethodName)) ∈ lw_all := lw_g (lw_at lw_m4 68 rfl) rfl
theorem q902 : (Jvm.Cond.code ({ cls := "InsuredFlame$Fire", name := "sumsAt", desc := "(I)I" } : Jvm.MethodName) prog_6_method_10_code (7 : Nat) (Option.some Jvm.ClassFile.FieldType.int)) ∈ lw_all := lw_g (lw_at lw_m4 69 rfl) rfl
theorem q903 : (Jvm.Cond.methodLink "InsuredFlame$Fire" (86 : Nat) ({ cls := "InsuredFlame$Moment", name := "of", desc := "(IIIII)LInsuredFlame$Moment;" } : Jvm.MethodName)) ∈ lw_all := lw_g (lw_at lw_m4 70 rfl) rfl
theorem q907 : (Jvm.Cond.methodLink "InsuredFlame$Fire" (92 : Nat) ({ cls := "InsuredFlame$Moment", name := "with", desc := "(IIII)LInsuredFlame$Moment;" } : Jvm.MethodName)) ∈ lw_all := lw_g (lw_at lw_m4 74 rfl) rfl
theorem q911 : (Jvm.Cond.methodLink "InsuredFlame$Fire" (103 : Nat) ({ cls := "InsuredFlame$Text", name := "tells", desc := "(ILInsuredFlame$Asked;)I" } : Jvm.MethodName)) ∈ lw_all := lw_g (lw_at lw_m4 78 rfl) rfl
theorem q959 : (Jvm.Cond.methodLinkNest "InsuredFlame$Fire" (109 : Nat) ({ cls := "InsuredFlame", name := "held", desc := "(II)I" } : Jvm.MethodName) "InsuredFlame") ∈ lw_tbl := lw_at lw_m4 126 rfl
theorem q964 : (Jvm.Cond.methodLink "InsuredFlame$Fire" (112 : Nat) ({ cls := "InsuredFlame$Fire", name := "draw", desc := "()I" } : Jvm.MethodName)) ∈ lw_all := lw_g (lw_at lw_m4 131 rfl) rfl
theorem q965 : (Jvm.Cond.privateMethod ({ cls := "InsuredFlame$Fire", name := "draw", desc := "()I" } : Jvm.MethodName)) ∈ lw_tbl := lw_at lw_m4 132 rfl
theorem q966 : (Jvm.Cond.instanceMethod ({ cls := "InsuredFlame$Fire", name := "draw", desc := "()I" } : Jvm.MethodName)) ∈ lw_all := lw_g (lw_at lw_m4 133 rfl) rfl
theorem q967 : (Jvm.Cond.code ({ cls := "InsuredFlame$Fire", name := "draw", desc := "()I" } : Jvm.MethodName) prog_6_method_13_code (1 : Nat) (Option.some Jvm.ClassFile.FieldType.int)) ∈ lw_all := lw_g (lw_at lw_m4 134 rfl) rfl
theorem q968 : (Jvm.Cond.constant "InsuredFlame$Fire" (71 : Nat) (65536 : Int32)) ∈ lw_all := lw_g (lw_at lw_m4 135 rfl) rfl
theorem q969 : (Jvm.Cond.methodLink "InsuredFlame$Fire" (116 : Nat) ({ cls := "java/lang/Math", name := "max", desc := "(II)I" } : Jvm.MethodName)) ∈ lw_all := lw_g (lw_at lw_m4 136 rfl) rfl
theorem q970 : (Jvm.Cond.methodLink "InsuredFlame$Fire" (121 : Nat) ({ cls := "InsuredFlame$Fire", name := "lights", desc := "(II)V" } : Jvm.MethodName)) ∈ lw_all := lw_g (lw_at lw_m4 137 rfl) rfl
theorem q971 : (Jvm.Cond.methodLink "InsuredFlame$Fire" (128 : Nat) ({ cls := "InsuredFlame$Text", name := "says", desc := "(ILInsuredFlame$Asked;)Z" } : Jvm.MethodName)) ∈ lw_all := lw_g (lw_at lw_m4 138 rfl) rfl
theorem q976 : (Jvm.Cond.instanceMethod ({ cls := "InsuredFlame$Fire", name := "those", desc := "(I)I" } : Jvm.MethodName)) ∈ lw_all := lw_g (lw_at lw_m4 143 rfl) rfl
theorem q977 : (Jvm.Cond.selects "InsuredFlame$Fire" ({ cls := "InsuredFlame$Fire", name := "those", desc := "(I)I" } : Jvm.MethodName) ({ cls := "InsuredFlame$Fire", name := "those", desc := "(I)I" } : Jvm.MethodName)) ∈ lw_all := lw_g (lw_at lw_m4 144 rfl) rfl
theorem q978 : (Jvm.Cond.code ({ cls := "InsuredFlame$Fire", name := "those", desc := "(I)I" } : Jvm.MethodName) prog_6_method_6_code (4 : Nat) (Option.some Jvm.ClassFile.FieldType.int)) ∈ lw_all := lw_g (lw_at lw_m4 145 rfl) rfl
theorem q984 : (Jvm.Cond.instanceMethod ({ cls := "InsuredFlame$Fire", name := "lost", desc := "()I" } : Jvm.MethodName)) ∈ lw_all := lw_g (lw_at lw_m4 151 rfl) rfl
theorem q985 : (Jvm.Cond.selects "InsuredFlame$Fire" ({ cls := "InsuredFlame$Fire", name := "lost", desc := "()I" } : Jvm.MethodName) ({ cls := "InsuredFlame$Fire", name := "lost", desc := "()I" } : Jvm.MethodName)) ∈ lw_all := lw_g (lw_at lw_m4 152 rfl) rfl
theorem q986 : (Jvm.Cond.code ({ cls := "InsuredFlame$Fire", name := "lost", desc := "()I" } : Jvm.MethodName) prog_6_method_12_code (6 : Nat) (Option.some Jvm.ClassFile.FieldType.int)) ∈ lw_all := lw_g (lw_at lw_m4 153 rfl) rfl
theorem q988 : (Jvm.Cond.instanceMethod ({ cls := "InsuredFlame$Fire", name := "gone", desc := "()I" } : Jvm.MethodName)) ∈ lw_all := lw_g (lw_at lw_m4 155 rfl) rfl
theorem q989 : (Jvm.Cond.selects "InsuredFlame$Fire" ({ cls := "InsuredFlame$Fire", name := "gone", desc := "()I" } : Jvm.MethodName) ({ cls := "InsuredFlame$Fire", name := "gone", desc := "()I" } : Jvm.MethodName)) ∈ lw_all := lw_g (lw_at lw_m4 156 rfl) rfl
theorem q990 : (Jvm.Cond.code ({ cls := "InsuredFlame$Fire", name := "gone", desc := "()I" } : Jvm.MethodName) prog_6_method_11_code (3 : Nat) (Option.some Jvm.ClassFile.FieldType.int)) ∈ lw_all := lw_g (lw_at lw_m4 157 rfl) rfl
theorem q1001 : (Jvm.Cond.instanceMethod ({ cls := "InsuredFlame$Fire", name := "thingsAt", desc := "(I)I" } : Jvm.MethodName)) ∈ lw_all := lw_g (lw_at lw_m4 168 rfl) rfl
theorem q1002 : (Jvm.Cond.selects "InsuredFlame$Fire" ({ cls := "InsuredFlame$Fire", name := "thingsAt", desc := "(I)I" } : Jvm.MethodName) ({ cls := "InsuredFlame$Fire", name := "thingsAt", desc := "(I)I" } : Jvm.MethodName)) ∈ lw_all := lw_g (lw_at lw_m4 169 rfl) rfl
theorem q1003 : (Jvm.Cond.code ({ cls := "InsuredFlame$Fire", name := "thingsAt", desc := "(I)I" } : Jvm.MethodName) prog_6_method_8_code (4 : Nat) (Option.some Jvm.ClassFile.FieldType.int)) ∈ lw_all := lw_g (lw_at lw_m4 170 rfl) rfl
theorem in_X3 : ∀ w ∈ wsX30, w ∈ lw_all := lw_in wsX30 [252, 254, 256, 258, 260, 262, 264, 266] (by decide +kernel) (by decide +kernel)
/-! InsuredFlame$Thing -/
set_option maxRecDepth 100000
def RX4 : String := "InsuredFlame$Thing"
def TX4 : u_T := fun k => match k with
  | 0 => ("InsuredFlame$Thing", "place", "I", false)
  | 1 => ("InsuredFlame$Thing", "value", "I", false)
  | 2 => ("InsuredFlame$Thing", "sum", "I", false)
  | 3 => ("InsuredFlame$Thing", "isTold", "Z", false)
  | _ => ("InsuredFlame$Thing", "isGone", "Z", false)
def tyX4 : Nat → FieldType := fun k => match k with
  | 0 => .int
  | 1 => .int
  | 2 => .int
  | 3 => .boolean
  | _ => .boolean
abbrev wsX40 : List Cond := u_ws RX4 TX4 5
theorem nmX4 : ∀ a, a < 5 → ∀ b, b < 5 → a ≠ b → (TX4 a).2.1 ≠ (TX4 b).2.1 := by decide +kernel
theorem tyX4_ok : ∀ k, k < 5 → parseFieldDescriptor (TX4 k).2.2.1 = some (tyX4 k) := by decide +kernel
abbrev cX4_init : ByteArray := prog_18_method_1_code
def yX4_init : MethodName := ⟨RX4, "<init>", "()V"⟩
theorem dX4_init_0 : decode cX4_init 0 = .ok (.aload_n 0, 1) := by decide +kernel
theorem dX4_init_1 : decode cX4_init 1 = .ok (.invokespecial 1, 3) := by decide +kernel
theorem dX4_init_4 : decode cX4_init 4 = .ok (.return_, 1) := by decide +kernel
abbrev cX4_takes : ByteArray := prog_18_method_2_code
def yX4_takes : MethodName := ⟨RX4, "takes", "(LInsuredFlame$Thing;)V"⟩
def dkwX4_takes_1 : List UInt8 := [42, 43, 180, 0, 19, 181, 0, 19, 42, 43, 180, 0, 23, 181, 0, 23, 177]
abbrev dktX4_takes_1 : List UInt8 := dkwX4_takes_1 ++ []
def dkwX4_takes_0 : List UInt8 := [42, 43, 180, 0, 7, 181, 0, 7, 42, 43, 180, 0, 13, 181, 0, 13, 42, 43, 180, 0, 16, 181, 0, 16]
abbrev dktX4_takes_0 : List UInt8 := dkwX4_takes_0 ++ dktX4_takes_1
theorem dksX4_takes_0 : cX4_takes.data.toList.drop 0 = dktX4_takes_0 := by decide +kernel
theorem dksX4_takes_1 : cX4_takes.data.toList.drop 24 = dktX4_takes_1 := dk_seg dksX4_takes_0 24 rfl rfl
theorem dX4_takes_0 : decode cX4_takes 0 = .ok (.aload_n 0, 1) := dk_42 (dk_at dksX4_takes_0 0 rfl rfl)
theorem dX4_takes_1 : decode cX4_takes 1 = .ok (.aload_n 1, 1) := dk_43 (dk_at dksX4_takes_0 1 rfl rfl)
theorem dX4_takes_2 : decode cX4_takes 2 = .ok (.getfield 7, 3) := dk_180 0 7 (dk_at dksX4_takes_0 2 rfl rfl)
theorem dX4_takes_5 : decode cX4_takes 5 = .ok (.putfield 7, 3) := dk_181 0 7 (dk_at dksX4_takes_0 5 rfl rfl)
theorem dX4_takes_8 : decode cX4_takes 8 = .ok (.aload_n 0, 1) := dk_42 (dk_at dksX4_takes_0 8 rfl rfl)
theorem dX4_takes_9 : decode cX4_takes 9 = .ok (.aload_n 1, 1) := dk_43 (dk_at dksX4_takes_0 9 rfl rfl)
theorem dX4_takes_10 : decode cX4_takes 10 = .ok (.getfield 13, 3) := dk_180 0 13 (dk_at dksX4_takes_0 10 rfl rfl)
theorem dX4_takes_13 : decode cX4_takes 13 = .ok (.putfield 13, 3) := dk_181 0 13 (dk_at dksX4_takes_0 13 rfl rfl)
theorem dX4_takes_16 : decode cX4_takes 16 = .ok (.aload_n 0, 1) := dk_42 (dk_at dksX4_takes_0 16 rfl rfl)
theorem dX4_takes_17 : decode cX4_takes 17 = .ok (.aload_n 1, 1) := dk_43 (dk_at dksX4_takes_0 17 rfl rfl)
theorem dX4_takes_18 : decode cX4_takes 18 = .ok (.getfield 16, 3) := dk_180 0 16 (dk_at dksX4_takes_0 18 rfl rfl)
theorem dX4_takes_21 : decode cX4_takes 21 = .ok (.putfield 16, 3) := dk_181 0 16 (dk_at dksX4_takes_0 21 rfl rfl)
theorem dX4_takes_24 : decode cX4_takes 24 = .ok (.aload_n 0, 1) := dk_42 (dk_at dksX4_takes_1 0 rfl rfl)
theorem dX4_takes_25 : decode cX4_takes 25 = .ok (.aload_n 1, 1) := dk_43 (dk_at dksX4_takes_1 1 rfl rfl)
theorem dX4_takes_26 : decode cX4_takes 26 = .ok (.getfield 19, 3) := dk_180 0 19 (dk_at dksX4_takes_1 2 rfl rfl)
theorem dX4_takes_29 : decode cX4_takes 29 = .ok (.putfield 19, 3) := dk_181 0 19 (dk_at dksX4_takes_1 5 rfl rfl)
theorem dX4_takes_32 : decode cX4_takes 32 = .ok (.aload_n 0, 1) := dk_42 (dk_at dksX4_takes_1 8 rfl rfl)
theorem dX4_takes_33 : decode cX4_takes 33 = .ok (.aload_n 1, 1) := dk_43 (dk_at dksX4_takes_1 9 rfl rfl)
theorem dX4_takes_34 : decode cX4_takes 34 = .ok (.getfield 23, 3) := dk_180 0 23 (dk_at dksX4_takes_1 10 rfl rfl)
theorem dX4_takes_37 : decode cX4_takes 37 = .ok (.putfield 23, 3) := dk_181 0 23 (dk_at dksX4_takes_1 13 rfl rfl)
theorem dX4_takes_40 : decode cX4_takes 40 = .ok (.return_, 1) := dk_177 (dk_at dksX4_takes_1 16 rfl rfl)
abbrev cX4_isAt : ByteArray := prog_18_method_3_code
def yX4_isAt : MethodName := ⟨RX4, "isAt", "(I)Z"⟩
def dkwX4_isAt_1 : List UInt8 := [167, 0, 4, 3, 172]
abbrev dktX4_isAt_1 : List UInt8 := dkwX4_isAt_1 ++ []
def dkwX4_isAt_0 : List UInt8 := [42, 180, 0, 19, 153, 0, 22, 42, 180, 0, 23, 154, 0, 15, 42, 180, 0, 7, 27, 160, 0, 7, 4]
abbrev dktX4_isAt_0 : List UInt8 := dkwX4_isAt_0 ++ dktX4_isAt_1
theorem dksX4_isAt_0 : cX4_isAt.data.toList.drop 0 = dktX4_isAt_0 := by decide +kernel
theorem dksX4_isAt_1 : cX4_isAt.data.toList.drop 23 = dktX4_isAt_1 := dk_seg dksX4_isAt_0 23 rfl rfl
theorem dX4_isAt_0 : decode cX4_isAt 0 = .ok (.aload_n 0, 1) := dk_42 (dk_at dksX4_isAt_0 0 rfl rfl)
theorem dX4_isAt_1 : decode cX4_isAt 1 = .ok (.getfield 19, 3) := dk_180 0 19 (dk_at dksX4_isAt_0 1 rfl rfl)
theorem dX4_isAt_4 : decode cX4_isAt 4 = .ok (.ifCond .eq 22, 3) := dk_153 0 22 (dk_at dksX4_isAt_0 4 rfl rfl)
theorem dX4_isAt_7 : decode cX4_isAt 7 = .ok (.aload_n 0, 1) := dk_42 (dk_at dksX4_isAt_0 7 rfl rfl)
theorem dX4_isAt_8 : decode cX4_isAt 8 = .ok (.getfield 23, 3) := dk_180 0 23 (dk_at dksX4_isAt_0 8 rfl rfl)
theorem dX4_isAt_11 : decode cX4_isAt 11 = .ok (.ifCond .ne 15, 3) := dk_154 0 15 (dk_at dksX4_isAt_0 11 rfl rfl)
theorem dX4_isAt_14 : decode cX4_isAt 14 = .ok (.aload_n 0, 1) := dk_42 (dk_at dksX4_isAt_0 14 rfl rfl)
theorem dX4_isAt_15 : decode cX4_isAt 15 = .ok (.getfield 7, 3) := dk_180 0 7 (dk_at dksX4_isAt_0 15 rfl rfl)
theorem dX4_isAt_18 : decode cX4_isAt 18 = .ok (.iload_n 1, 1) := dk_27 (dk_at dksX4_isAt_0 18 rfl rfl)
theorem dX4_isAt_19 : decode cX4_isAt 19 = .ok (.if_icmp .ne 7, 3) := dk_160 0 7 (dk_at dksX4_isAt_0 19 rfl rfl)
theorem dX4_isAt_22 : decode cX4_isAt 22 = .ok (.iconst 1, 1) := dk_4 (dk_at dksX4_isAt_0 22 rfl rfl)
theorem dX4_isAt_23 : decode cX4_isAt 23 = .ok (.goto 4, 3) := dk_167 0 4 (dk_at dksX4_isAt_1 0 rfl rfl)
theorem dX4_isAt_26 : decode cX4_isAt 26 = .ok (.iconst 0, 1) := dk_3 (dk_at dksX4_isAt_1 3 rfl rfl)
theorem dX4_isAt_27 : decode cX4_isAt 27 = .ok (.ireturn, 1) := dk_172 (dk_at dksX4_isAt_1 4 rfl rfl)
abbrev cX4_paid : ByteArray := prog_18_method_4_code
def yX4_paid : MethodName := ⟨RX4, "paid", "()I"⟩
def dkwX4_paid_1 : List UInt8 := [180, 0, 16, 104, 42, 180, 0, 13, 108, 172]
abbrev dktX4_paid_1 : List UInt8 := dkwX4_paid_1 ++ []
def dkwX4_paid_0 : List UInt8 := [42, 180, 0, 16, 42, 180, 0, 13, 161, 0, 10, 42, 180, 0, 13, 167, 0, 17, 42, 180, 0, 16, 42]
abbrev dktX4_paid_0 : List UInt8 := dkwX4_paid_0 ++ dktX4_paid_1
theorem dksX4_paid_0 : cX4_paid.data.toList.drop 0 = dktX4_paid_0 := by decide +kernel
theorem dksX4_paid_1 : cX4_paid.data.toList.drop 23 = dktX4_paid_1 := dk_seg dksX4_paid_0 23 rfl rfl
theorem dX4_paid_0 : decode cX4_paid 0 = .ok (.aload_n 0, 1) := dk_42 (dk_at dksX4_paid_0 0 rfl rfl)
theorem dX4_paid_1 : decode cX4_paid 1 = .ok (.getfield 16, 3) := dk_180 0 16 (dk_at dksX4_paid_0 1 rfl rfl)
theorem dX4_paid_4 : decode cX4_paid 4 = .ok (.aload_n 0, 1) := dk_42 (dk_at dksX4_paid_0 4 rfl rfl)
theorem dX4_paid_5 : decode cX4_paid 5 = .ok (.getfield 13, 3) := dk_180 0 13 (dk_at dksX4_paid_0 5 rfl rfl)
theorem dX4_paid_8 : decode cX4_paid 8 = .ok (.if_icmp .lt 10, 3) := dk_161 0 10 (dk_at dksX4_paid_0 8 rfl rfl)
theorem dX4_paid_11 : decode cX4_paid 11 = .ok (.aload_n 0, 1) := dk_42 (dk_at dksX4_paid_0 11 rfl rfl)
theorem dX4_paid_12 : decode cX4_paid 12 = .ok (.getfield 13, 3) := dk_180 0 13 (dk_at dksX4_paid_0 12 rfl rfl)
theorem dX4_paid_15 : decode cX4_paid 15 = .ok (.goto 17, 3) := dk_167 0 17 (dk_at dksX4_paid_0 15 rfl rfl)
theorem dX4_paid_18 : decode cX4_paid 18 = .ok (.aload_n 0, 1) := dk_42 (dk_at dksX4_paid_0 18 rfl rfl)
theorem dX4_paid_19 : decode cX4_paid 19 = .ok (.getfield 16, 3) := dk_180 0 16 (dk_at dksX4_paid_0 19 rfl rfl)
theorem dX4_paid_22 : decode cX4_paid 22 = .ok (.aload_n 0, 1) := dk_42 (dk_at dksX4_paid_0 22 rfl rfl)
theorem dX4_paid_23 : decode cX4_paid 23 = .ok (.getfield 16, 3) := dk_180 0 16 (dk_at dksX4_paid_1 0 rfl rfl)
theorem dX4_paid_26 : decode cX4_paid 26 = .ok (.imul, 1) := dk_104 (dk_at dksX4_paid_1 3 rfl rfl)
theorem dX4_paid_27 : decode cX4_paid 27 = .ok (.aload_n 0, 1) := dk_42 (dk_at dksX4_paid_1 4 rfl rfl)
theorem dX4_paid_28 : decode cX4_paid 28 = .ok (.getfield 13, 3) := dk_180 0 13 (dk_at dksX4_paid_1 5 rfl rfl)
theorem dX4_paid_31 : decode cX4_paid 31 = .ok (.idiv, 1) := dk_108 (dk_at dksX4_paid_1 8 rfl rfl)
theorem dX4_paid_32 : decode cX4_paid 32 = .ok (.ireturn, 1) := dk_172 (dk_at dksX4_paid_1 9 rfl rfl)
theorem q118 : (Jvm.Cond.initialized "InsuredFlame$Thing") ∈ lw_all := lw_g (lw_at lw_m1 5 rfl) rfl
theorem q199 : (Jvm.Cond.instantiable "InsuredFlame$Thing" (5 : Nat)) ∈ lw_all := lw_g (lw_at lw_m1 86 rfl) rfl
theorem q201 : (Jvm.Cond.instanceMethod ({ cls := "InsuredFlame$Thing", name := "<init>", desc := "()V" } : Jvm.MethodName)) ∈ lw_all := lw_g (lw_at lw_m1 88 rfl) rfl
theorem q202 : (Jvm.Cond.code ({ cls := "InsuredFlame$Thing", name := "<init>", desc := "()V" } : Jvm.MethodName) prog_18_method_1_code (1 : Nat) (Option.none : Option Jvm.ClassFile.FieldType)) ∈ lw_all := lw_g (lw_at lw_m1 89 rfl) rfl
theorem q203 : (Jvm.Cond.methodLink "InsuredFlame$Thing" (1 : Nat) ({ cls := "java/lang/Object", name := "<init>", desc := "()V" } : Jvm.MethodName)) ∈ lw_all := lw_g (lw_at lw_m1 90 rfl) rfl
theorem q204 : (Jvm.Cond.fieldLink "InsuredFlame$Thing" (7 : Nat) "InsuredFlame$Thing" "place" "I") ∈ lw_all := lw_g (lw_at lw_m1 91 rfl) rfl
theorem q207 : (Jvm.Cond.fieldLink "InsuredFlame$Thing" (13 : Nat) "InsuredFlame$Thing" "value" "I") ∈ lw_all := lw_g (lw_at lw_m1 94 rfl) rfl
theorem q211 : (Jvm.Cond.fieldLink "InsuredFlame$Thing" (16 : Nat) "InsuredFlame$Thing" "sum" "I") ∈ lw_all := lw_g (lw_at lw_m1 98 rfl) rfl
theorem q215 : (Jvm.Cond.fieldLink "InsuredFlame$Thing" (19 : Nat) "InsuredFlame$Thing" "isTold" "Z") ∈ lw_all := lw_g (lw_at lw_m1 102 rfl) rfl
theorem q219 : (Jvm.Cond.fieldLink "InsuredFlame$Thing" (23 : Nat) "InsuredFlame$Thing" "isGone" "Z") ∈ lw_all := lw_g (lw_at lw_m1 106 rfl) rfl
theorem q223 : (Jvm.Cond.lays "InsuredFlame$Thing" "InsuredFlame$Thing" "place" "I") ∈ lw_all := lw_g (lw_at lw_m1 110 rfl) rfl
theorem q224 : (Jvm.Cond.soleField "InsuredFlame$Thing" "place") ∈ lw_all := lw_g (lw_at lw_m1 111 rfl) rfl
theorem q225 : (Jvm.Cond.lays "InsuredFlame$Thing" "InsuredFlame$Thing" "value" "I") ∈ lw_all := lw_g (lw_at lw_m1 112 rfl) rfl
theorem q226 : (Jvm.Cond.soleField "InsuredFlame$Thing" "value") ∈ lw_all := lw_g (lw_at lw_m1 113 rfl) rfl
theorem q227 : (Jvm.Cond.lays "InsuredFlame$Thing" "InsuredFlame$Thing" "sum" "I") ∈ lw_all := lw_g (lw_at lw_m1 114 rfl) rfl
theorem q228 : (Jvm.Cond.soleField "InsuredFlame$Thing" "sum") ∈ lw_all := lw_g (lw_at lw_m1 115 rfl) rfl
theorem q229 : (Jvm.Cond.lays "InsuredFlame$Thing" "InsuredFlame$Thing" "isTold" "Z") ∈ lw_all := lw_g (lw_at lw_m1 116 rfl) rfl
theorem q230 : (Jvm.Cond.soleField "InsuredFlame$Thing" "isTold") ∈ lw_all := lw_g (lw_at lw_m1 117 rfl) rfl
theorem q231 : (Jvm.Cond.lays "InsuredFlame$Thing" "InsuredFlame$Thing" "isGone" "Z") ∈ lw_all := lw_g (lw_at lw_m1 118 rfl) rfl
theorem q232 : (Jvm.Cond.soleField "InsuredFlame$Thing" "isGone") ∈ lw_all := lw_g (lw_at lw_m1 119 rfl) rfl
theorem q233 : (Jvm.Cond.superclass "InsuredFlame$Thing" "java/lang/Object") ∈ lw_all := lw_g (lw_at lw_m1 120 rfl) rfl
theorem q765 : (Jvm.Cond.instanceMethod ({ cls := "InsuredFlame$Thing", name := "takes", desc := "(LInsuredFlame$Thing;)V" } : Jvm.MethodName)) ∈ lw_all := lw_g (lw_at lw_m3 172 rfl) rfl
theorem q766 : (Jvm.Cond.selects "InsuredFlame$Thing" ({ cls := "InsuredFlame$Thing", name := "takes", desc := "(LInsuredFlame$Thing;)V" } : Jvm.MethodName) ({ cls := "InsuredFlame$Thing", name := "takes", desc := "(LInsuredFlame$Thing;)V" } : Jvm.MethodName)) ∈ lw_all := lw_g (lw_at lw_m3 173 rfl) rfl
theorem q767 : (Jvm.Cond.code ({ cls := "InsuredFlame$Thing", name := "takes", desc := "(LInsuredFlame$Thing;)V" } : Jvm.MethodName) prog_18_method_2_code (2 : Nat) (Option.none : Option Jvm.ClassFile.FieldType)) ∈ lw_all := lw_g (lw_at lw_m3 174 rfl) rfl
theorem q867 : (Jvm.Cond.instanceMethod ({ cls := "InsuredFlame$Thing", name := "isAt", desc := "(I)Z" } : Jvm.MethodName)) ∈ lw_all := lw_g (lw_at lw_m4 34 rfl) rfl
theorem q868 : (Jvm.Cond.selects "InsuredFlame$Thing" ({ cls := "InsuredFlame$Thing", name := "isAt", desc := "(I)Z" } : Jvm.MethodName) ({ cls := "InsuredFlame$Thing", name := "isAt", desc := "(I)Z" } : Jvm.MethodName)) ∈ lw_all := lw_g (lw_at lw_m4 35 rfl) rfl
theorem q869 : (Jvm.Cond.code ({ cls := "InsuredFlame$Thing", name := "isAt", desc := "(I)Z" } : Jvm.MethodName) prog_18_method_3_code (2 : Nat) (Option.some Jvm.ClassFile.FieldType.boolean)) ∈ lw_all := lw_g (lw_at lw_m4 36 rfl) rfl
theorem q1014 : (Jvm.Cond.instanceMethod ({ cls := "InsuredFlame$Thing", name := "paid", desc := "()I" } : Jvm.MethodName)) ∈ lw_all := lw_g (lw_at lw_m4 181 rfl) rfl
theorem q1015 : (Jvm.Cond.selects "InsuredFlame$Thing" ({ cls := "InsuredFlame$Thing", name := "paid", desc := "()I" } : Jvm.MethodName) ({ cls := "InsuredFlame$Thing", name := "paid", desc := "()I" } : Jvm.MethodName)) ∈ lw_all := lw_g (lw_at lw_m4 182 rfl) rfl
theorem q1016 : (Jvm.Cond.code ({ cls := "InsuredFlame$Thing", name := "paid", desc := "()I" } : Jvm.MethodName) prog_18_method_4_code (1 : Nat) (Option.some Jvm.ClassFile.FieldType.int)) ∈ lw_all := lw_g (lw_at lw_m4 183 rfl) rfl
theorem in_X4 : ∀ w ∈ wsX40, w ∈ lw_all := lw_in wsX40 [223, 225, 227, 229, 231] (by decide +kernel) (by decide +kernel)
/-! InsuredFlame$Text -/
set_option maxRecDepth 100000
def RX5 : String := "InsuredFlame$Text"
def TX5 : u_T := fun k => match k with
  | 0 => ("InsuredFlame$Text", "letters", "[I", true)
  | 1 => ("InsuredFlame$Text", "sums", "[LInsuredFlame$Sum;", true)
  | 2 => ("InsuredFlame$Text", "conditions", "[LInsuredFlame$Condition;", true)
  | _ => ("InsuredFlame$Text", "many", "I", false)
def tyX5 : Nat → FieldType := fun k => match k with
  | 0 => .array .int
  | 1 => .array (.object "InsuredFlame$Sum")
  | 2 => .array (.object "InsuredFlame$Condition")
  | _ => .int
abbrev wsX50 : List Cond := u_ws RX5 TX5 4
theorem nmX5 : ∀ a, a < 4 → ∀ b, b < 4 → a ≠ b → (TX5 a).2.1 ≠ (TX5 b).2.1 := by decide +kernel
theorem tyX5_ok : ∀ k, k < 4 → parseFieldDescriptor (TX5 k).2.2.1 = some (tyX5 k) := by decide +kernel
abbrev cX5_init : ByteArray := prog_17_method_1_code
def yX5_init : MethodName := ⟨RX5, "<init>", "()V"⟩
def dkwX5_init_1 : List UInt8 := [189, 0, 21, 181, 0, 23, 177]
abbrev dktX5_init_1 : List UInt8 := dkwX5_init_1 ++ []
def dkwX5_init_0 : List UInt8 := [42, 183, 0, 3, 42, 16, 16, 188, 10, 181, 0, 9, 42, 16, 16, 189, 0, 15, 181, 0, 17, 42, 16, 16]
abbrev dktX5_init_0 : List UInt8 := dkwX5_init_0 ++ dktX5_init_1
theorem dksX5_init_0 : cX5_init.data.toList.drop 0 = dktX5_init_0 := by decide +kernel
theorem dksX5_init_1 : cX5_init.data.toList.drop 24 = dktX5_init_1 := dk_seg dksX5_init_0 24 rfl rfl
theorem dX5_init_0 : decode cX5_init 0 = .ok (.aload_n 0, 1) := dk_42 (dk_at dksX5_init_0 0 rfl rfl)
theorem dX5_init_1 : decode cX5_init 1 = .ok (.invokespecial 3, 3) := dk_183 0 3 (dk_at dksX5_init_0 1 rfl rfl)
theorem dX5_init_4 : decode cX5_init 4 = .ok (.aload_n 0, 1) := dk_42 (dk_at dksX5_init_0 4 rfl rfl)
theorem dX5_init_5 : decode cX5_init 5 = .ok (.bipush 16, 2) := dk_16 16 (dk_at dksX5_init_0 5 rfl rfl)
theorem dX5_init_7 : decode cX5_init 7 = .ok (.newarray .int, 2) := dk_188_10 (dk_at dksX5_init_0 7 rfl rfl)
theorem dX5_init_9 : decode cX5_init 9 = .ok (.putfield 9, 3) := dk_181 0 9 (dk_at dksX5_init_0 9 rfl rfl)
theorem dX5_init_12 : decode cX5_init 12 = .ok (.aload_n 0, 1) := dk_42 (dk_at dksX5_init_0 12 rfl rfl)
theorem dX5_init_13 : decode cX5_init 13 = .ok (.bipush 16, 2) := dk_16 16 (dk_at dksX5_init_0 13 rfl rfl)
theorem dX5_init_15 : decode cX5_init 15 = .ok (.anewarray 15, 3) := dk_189 0 15 (dk_at dksX5_init_0 15 rfl rfl)
theorem dX5_init_18 : decode cX5_init 18 = .ok (.putfield 17, 3) := dk_181 0 17 (dk_at dksX5_init_0 18 rfl rfl)
theorem dX5_init_21 : decode cX5_init 21 = .ok (.aload_n 0, 1) := dk_42 (dk_at dksX5_init_0 21 rfl rfl)
theorem dX5_init_22 : decode cX5_init 22 = .ok (.bipush 16, 2) := dk_16 16 (dk_at dksX5_init_0 22 rfl rfl)
theorem dX5_init_24 : decode cX5_init 24 = .ok (.anewarray 21, 3) := dk_189 0 21 (dk_at dksX5_init_1 0 rfl rfl)
theorem dX5_init_27 : decode cX5_init 27 = .ok (.putfield 23, 3) := dk_181 0 23 (dk_at dksX5_init_1 3 rfl rfl)
theorem dX5_init_30 : decode cX5_init 30 = .ok (.return_, 1) := dk_177 (dk_at dksX5_init_1 6 rfl rfl)
abbrev cX5_tells : ByteArray := prog_17_method_2_code
def yX5_tells : MethodName := ⟨RX5, "tells", "(ILInsuredFlame$Asked;)I"⟩
def dkwX5_tells_2 : List UInt8 := [167, 255, 210, 3, 172]
abbrev dktX5_tells_2 : List UInt8 := dkwX5_tells_2 ++ []
def dkwX5_tells_1 : List UInt8 := [29, 50, 44, 182, 0, 31, 4, 160, 0, 14, 42, 180, 0, 17, 29, 50, 44, 182, 0, 35, 172, 132, 3, 1]
abbrev dktX5_tells_1 : List UInt8 := dkwX5_tells_1 ++ dktX5_tells_2
def dkwX5_tells_0 : List UInt8 := [3, 62, 29, 42, 180, 0, 27, 162, 0, 44, 42, 180, 0, 9, 29, 46, 27, 160, 0, 28, 42, 180, 0, 23]
abbrev dktX5_tells_0 : List UInt8 := dkwX5_tells_0 ++ dktX5_tells_1
theorem dksX5_tells_0 : cX5_tells.data.toList.drop 0 = dktX5_tells_0 := by decide +kernel
theorem dksX5_tells_1 : cX5_tells.data.toList.drop 24 = dktX5_tells_1 := dk_seg dksX5_tells_0 24 rfl rfl
theorem dksX5_tells_2 : cX5_tells.data.toList.drop 48 = dktX5_tells_2 := dk_seg dksX5_tells_1 24 rfl rfl
theorem dX5_tells_0 : decode cX5_tells 0 = .ok (.iconst 0, 1) := dk_3 (dk_at dksX5_tells_0 0 rfl rfl)
theorem dX5_tells_1 : decode cX5_tells 1 = .ok (.istore_n 3, 1) := dk_62 (dk_at dksX5_tells_0 1 rfl rfl)
theorem dX5_tells_2 : decode cX5_tells 2 = .ok (.iload_n 3, 1) := dk_29 (dk_at dksX5_tells_0 2 rfl rfl)
theorem dX5_tells_3 : decode cX5_tells 3 = .ok (.aload_n 0, 1) := dk_42 (dk_at dksX5_tells_0 3 rfl rfl)
theorem dX5_tells_4 : decode cX5_tells 4 = .ok (.getfield 27, 3) := dk_180 0 27 (dk_at dksX5_tells_0 4 rfl rfl)
theorem dX5_tells_7 : decode cX5_tells 7 = .ok (.if_icmp .ge 44, 3) := dk_162 0 44 (dk_at dksX5_tells_0 7 rfl rfl)
theorem dX5_tells_10 : decode cX5_tells 10 = .ok (.aload_n 0, 1) := dk_42 (dk_at dksX5_tells_0 10 rfl rfl)
theorem dX5_tells_11 : decode cX5_tells 11 = .ok (.getfield 9, 3) := dk_180 0 9 (dk_at dksX5_tells_0 11 rfl rfl)
theorem dX5_tells_14 : decode cX5_tells 14 = .ok (.iload_n 3, 1) := dk_29 (dk_at dksX5_tells_0 14 rfl rfl)
theorem dX5_tells_15 : decode cX5_tells 15 = .ok (.iaload, 1) := dk_46 (dk_at dksX5_tells_0 15 rfl rfl)
theorem dX5_tells_16 : decode cX5_tells 16 = .ok (.iload_n 1, 1) := dk_27 (dk_at dksX5_tells_0 16 rfl rfl)
theorem dX5_tells_17 : decode cX5_tells 17 = .ok (.if_icmp .ne 28, 3) := dk_160 0 28 (dk_at dksX5_tells_0 17 rfl rfl)
theorem dX5_tells_20 : decode cX5_tells 20 = .ok (.aload_n 0, 1) := dk_42 (dk_at dksX5_tells_0 20 rfl rfl)
theorem dX5_tells_21 : decode cX5_tells 21 = .ok (.getfield 23, 3) := dk_180 0 23 (dk_at dksX5_tells_0 21 rfl rfl)
theorem dX5_tells_24 : decode cX5_tells 24 = .ok (.iload_n 3, 1) := dk_29 (dk_at dksX5_tells_1 0 rfl rfl)
theorem dX5_tells_25 : decode cX5_tells 25 = .ok (.aaload, 1) := dk_50 (dk_at dksX5_tells_1 1 rfl rfl)
theorem dX5_tells_26 : decode cX5_tells 26 = .ok (.aload_n 2, 1) := dk_44 (dk_at dksX5_tells_1 2 rfl rfl)
theorem dX5_tells_27 : decode cX5_tells 27 = .ok (.invokevirtual 31, 3) := dk_182 0 31 (dk_at dksX5_tells_1 3 rfl rfl)
theorem dX5_tells_30 : decode cX5_tells 30 = .ok (.iconst 1, 1) := dk_4 (dk_at dksX5_tells_1 6 rfl rfl)
theorem dX5_tells_31 : decode cX5_tells 31 = .ok (.if_icmp .ne 14, 3) := dk_160 0 14 (dk_at dksX5_tells_1 7 rfl rfl)
theorem dX5_tells_34 : decode cX5_tells 34 = .ok (.aload_n 0, 1) := dk_42 (dk_at dksX5_tells_1 10 rfl rfl)
theorem dX5_tells_35 : decode cX5_tells 35 = .ok (.getfield 17, 3) := dk_180 0 17 (dk_at dksX5_tells_1 11 rfl rfl)
theorem dX5_tells_38 : decode cX5_tells 38 = .ok (.iload_n 3, 1) := dk_29 (dk_at dksX5_tells_1 14 rfl rfl)
theorem dX5_tells_39 : decode cX5_tells 39 = .ok (.aaload, 1) := dk_50 (dk_at dksX5_tells_1 15 rfl rfl)
theorem dX5_tells_40 : decode cX5_tells 40 = .ok (.aload_n 2, 1) := dk_44 (dk_at dksX5_tells_1 16 rfl rfl)
theorem dX5_tells_41 : decode cX5_tells 41 = .ok (.invokevirtual 35, 3) := dk_182 0 35 (dk_at dksX5_tells_1 17 rfl rfl)
theorem dX5_tells_44 : decode cX5_tells 44 = .ok (.ireturn, 1) := dk_172 (dk_at dksX5_tells_1 20 rfl rfl)
theorem dX5_tells_45 : decode cX5_tells 45 = .ok (.iinc 3 1, 3) := dk_132 3 1 (dk_at dksX5_tells_1 21 rfl rfl)
theorem dX5_tells_48 : decode cX5_tells 48 = .ok (.goto (-46), 3) := dk_167 255 210 (dk_at dksX5_tells_2 0 rfl rfl)
theorem dX5_tells_51 : decode cX5_tells 51 = .ok (.iconst 0, 1) := dk_3 (dk_at dksX5_tells_2 3 rfl rfl)
theorem dX5_tells_52 : decode cX5_tells 52 = .ok (.ireturn, 1) := dk_172 (dk_at dksX5_tells_2 4 rfl rfl)
abbrev cX5_says : ByteArray := prog_17_method_3_code
def yX5_says : MethodName := ⟨RX5, "says", "(ILInsuredFlame$Asked;)Z"⟩
def dkwX5_says_1 : List UInt8 := [29, 50, 44, 182, 0, 31, 4, 160, 0, 5, 4, 172, 132, 3, 1, 167, 255, 219, 3, 172]
abbrev dktX5_says_1 : List UInt8 := dkwX5_says_1 ++ []
def dkwX5_says_0 : List UInt8 := [3, 62, 29, 42, 180, 0, 27, 162, 0, 35, 42, 180, 0, 9, 29, 46, 27, 160, 0, 19, 42, 180, 0, 23]
abbrev dktX5_says_0 : List UInt8 := dkwX5_says_0 ++ dktX5_says_1
theorem dksX5_says_0 : cX5_says.data.toList.drop 0 = dktX5_says_0 := by decide +kernel
theorem dksX5_says_1 : cX5_says.data.toList.drop 24 = dktX5_says_1 := dk_seg dksX5_says_0 24 rfl rfl
theorem dX5_says_0 : decode cX5_says 0 = .ok (.iconst 0, 1) := dk_3 (dk_at dksX5_says_0 0 rfl rfl)
theorem dX5_says_1 : decode cX5_says 1 = .ok (.istore_n 3, 1) := dk_62 (dk_at dksX5_says_0 1 rfl rfl)
theorem dX5_says_2 : decode cX5_says 2 = .ok (.iload_n 3, 1) := dk_29 (dk_at dksX5_says_0 2 rfl rfl)
theorem dX5_says_3 : decode cX5_says 3 = .ok (.aload_n 0, 1) := dk_42 (dk_at dksX5_says_0 3 rfl rfl)
theorem dX5_says_4 : decode cX5_says 4 = .ok (.getfield 27, 3) := dk_180 0 27 (dk_at dksX5_says_0 4 rfl rfl)
theorem dX5_says_7 : decode cX5_says 7 = .ok (.if_icmp .ge 35, 3) := dk_162 0 35 (dk_at dksX5_says_0 7 rfl rfl)
theorem dX5_says_10 : decode cX5_says 10 = .ok (.aload_n 0, 1) := dk_42 (dk_at dksX5_says_0 10 rfl rfl)
theorem dX5_says_11 : decode cX5_says 11 = .ok (.getfield 9, 3) := dk_180 0 9 (dk_at dksX5_says_0 11 rfl rfl)
theorem dX5_says_14 : decode cX5_says 14 = .ok (.iload_n 3, 1) := dk_29 (dk_at dksX5_says_0 14 rfl rfl)
theorem dX5_says_15 : decode cX5_says 15 = .ok (.iaload, 1) := dk_46 (dk_at dksX5_says_0 15 rfl rfl)
theorem dX5_says_16 : decode cX5_says 16 = .ok (.iload_n 1, 1) := dk_27 (dk_at dksX5_says_0 16 rfl rfl)
theorem dX5_says_17 : decode cX5_says 17 = .ok (.if_icmp .ne 19, 3) := dk_160 0 19 (dk_at dksX5_says_0 17 rfl rfl)
theorem dX5_says_20 : decode cX5_says 20 = .ok (.aload_n 0, 1) := dk_42 (dk_at dksX5_says_0 20 rfl rfl)
theorem dX5_says_21 : decode cX5_says 21 = .ok (.getfield 23, 3) := dk_180 0 23 (dk_at dksX5_says_0 21 rfl rfl)
theorem dX5_says_24 : decode cX5_says 24 = .ok (.iload_n 3, 1) := dk_29 (dk_at dksX5_says_1 0 rfl rfl)
theorem dX5_says_25 : decode cX5_says 25 = .ok (.aaload, 1) := dk_50 (dk_at dksX5_says_1 1 rfl rfl)
theorem dX5_says_26 : decode cX5_says 26 = .ok (.aload_n 2, 1) := dk_44 (dk_at dksX5_says_1 2 rfl rfl)
theorem dX5_says_27 : decode cX5_says 27 = .ok (.invokevirtual 31, 3) := dk_182 0 31 (dk_at dksX5_says_1 3 rfl rfl)
theorem dX5_says_30 : decode cX5_says 30 = .ok (.iconst 1, 1) := dk_4 (dk_at dksX5_says_1 6 rfl rfl)
theorem dX5_says_31 : decode cX5_says 31 = .ok (.if_icmp .ne 5, 3) := dk_160 0 5 (dk_at dksX5_says_1 7 rfl rfl)
theorem dX5_says_34 : decode cX5_says 34 = .ok (.iconst 1, 1) := dk_4 (dk_at dksX5_says_1 10 rfl rfl)
theorem dX5_says_35 : decode cX5_says 35 = .ok (.ireturn, 1) := dk_172 (dk_at dksX5_says_1 11 rfl rfl)
theorem dX5_says_36 : decode cX5_says 36 = .ok (.iinc 3 1, 3) := dk_132 3 1 (dk_at dksX5_says_1 12 rfl rfl)
theorem dX5_says_39 : decode cX5_says 39 = .ok (.goto (-37), 3) := dk_167 255 219 (dk_at dksX5_says_1 15 rfl rfl)
theorem dX5_says_42 : decode cX5_says 42 = .ok (.iconst 0, 1) := dk_3 (dk_at dksX5_says_1 18 rfl rfl)
theorem dX5_says_43 : decode cX5_says 43 = .ok (.ireturn, 1) := dk_172 (dk_at dksX5_says_1 19 rfl rfl)
theorem q119 : (Jvm.Cond.initialized "InsuredFlame$Text") ∈ lw_all := lw_g (lw_at lw_m1 6 rfl) rfl
theorem q270 : (Jvm.Cond.instantiable "InsuredFlame$Text" (4 : Nat)) ∈ lw_all := lw_g (lw_at lw_m1 157 rfl) rfl
theorem q272 : (Jvm.Cond.instanceMethod ({ cls := "InsuredFlame$Text", name := "<init>", desc := "()V" } : Jvm.MethodName)) ∈ lw_all := lw_g (lw_at lw_m1 159 rfl) rfl
theorem q273 : (Jvm.Cond.code ({ cls := "InsuredFlame$Text", name := "<init>", desc := "()V" } : Jvm.MethodName) prog_17_method_1_code (1 : Nat) (Option.none : Option Jvm.ClassFile.FieldType)) ∈ lw_all := lw_g (lw_at lw_m1 160 rfl) rfl
theorem q274 : (Jvm.Cond.methodLink "InsuredFlame$Text" (3 : Nat) ({ cls := "java/lang/Object", name := "<init>", desc := "()V" } : Jvm.MethodName)) ∈ lw_all := lw_g (lw_at lw_m1 161 rfl) rfl
theorem q275 : (Jvm.Cond.classLink "InsuredFlame$Text" (15 : Nat) "InsuredFlame$Sum") ∈ lw_all := lw_g (lw_at lw_m1 162 rfl) rfl
theorem q277 : (Jvm.Cond.classLink "InsuredFlame$Text" (21 : Nat) "InsuredFlame$Condition") ∈ lw_all := lw_g (lw_at lw_m1 164 rfl) rfl
theorem q279 : (Jvm.Cond.fieldLink "InsuredFlame$Text" (9 : Nat) "InsuredFlame$Text" "letters" "[I") ∈ lw_all := lw_g (lw_at lw_m1 166 rfl) rfl
theorem q281 : (Jvm.Cond.fieldLink "InsuredFlame$Text" (17 : Nat) "InsuredFlame$Text" "sums" "[LInsuredFlame$Sum;") ∈ lw_all := lw_g (lw_at lw_m1 168 rfl) rfl
theorem q283 : (Jvm.Cond.fieldLink "InsuredFlame$Text" (23 : Nat) "InsuredFlame$Text" "conditions" "[LInsuredFlame$Condition;") ∈ lw_all := lw_g (lw_at lw_m1 170 rfl) rfl
theorem q285 : (Jvm.Cond.fieldLink "InsuredFlame$Text" (27 : Nat) "InsuredFlame$Text" "many" "I") ∈ lw_all := lw_g (lw_at lw_m1 172 rfl) rfl
theorem q288 : (Jvm.Cond.laysFinal "InsuredFlame$Text" "InsuredFlame$Text" "letters" "[I") ∈ lw_all := lw_g (lw_at lw_m1 175 rfl) rfl
theorem q289 : (Jvm.Cond.soleField "InsuredFlame$Text" "letters") ∈ lw_all := lw_g (lw_at lw_m1 176 rfl) rfl
theorem q290 : (Jvm.Cond.laysFinal "InsuredFlame$Text" "InsuredFlame$Text" "sums" "[LInsuredFlame$Sum;") ∈ lw_all := lw_g (lw_at lw_m1 177 rfl) rfl
theorem q291 : (Jvm.Cond.soleField "InsuredFlame$Text" "sums") ∈ lw_all := lw_g (lw_at lw_m1 178 rfl) rfl
theorem q292 : (Jvm.Cond.laysFinal "InsuredFlame$Text" "InsuredFlame$Text" "conditions" "[LInsuredFlame$Condition;") ∈ lw_all := lw_g (lw_at lw_m1 179 rfl) rfl
theorem q293 : (Jvm.Cond.soleField "InsuredFlame$Text" "conditions") ∈ lw_all := lw_g (lw_at lw_m1 180 rfl) rfl
theorem q294 : (Jvm.Cond.lays "InsuredFlame$Text" "InsuredFlame$Text" "many" "I") ∈ lw_all := lw_g (lw_at lw_m1 181 rfl) rfl
theorem q295 : (Jvm.Cond.soleField "InsuredFlame$Text" "many") ∈ lw_all := lw_g (lw_at lw_m1 182 rfl) rfl
theorem q296 : (Jvm.Cond.superclass "InsuredFlame$Text" "java/lang/Object") ∈ lw_all := lw_g (lw_at lw_m1 183 rfl) rfl
theorem q912 : (Jvm.Cond.instanceMethod ({ cls := "InsuredFlame$Text", name := "tells", desc := "(ILInsuredFlame$Asked;)I" } : Jvm.MethodName)) ∈ lw_all := lw_g (lw_at lw_m4 79 rfl) rfl
theorem q913 : (Jvm.Cond.selects "InsuredFlame$Text" ({ cls := "InsuredFlame$Text", name := "tells", desc := "(ILInsuredFlame$Asked;)I" } : Jvm.MethodName) ({ cls := "InsuredFlame$Text", name := "tells", desc := "(ILInsuredFlame$Asked;)I" } : Jvm.MethodName)) ∈ lw_all := lw_g (lw_at lw_m4 80 rfl) rfl
theorem q914 : (Jvm.Cond.code ({ cls := "InsuredFlame$Text", name := "tells", desc := "(ILInsuredFlame$Asked;)I" } : Jvm.MethodName) prog_17_method_2_code (4 : Nat) (Option.some Jvm.ClassFile.FieldType.int)) ∈ lw_all := lw_g (lw_at lw_m4 81 rfl) rfl
theorem q915 : (Jvm.Cond.methodLink "InsuredFlame$Text" (31 : Nat) ({ cls := "InsuredFlame$Condition", name := "holds", desc := "(LInsuredFlame$Asked;)I" } : Jvm.MethodName)) ∈ lw_all := lw_g (lw_at lw_m4 82 rfl) rfl
theorem q951 : (Jvm.Cond.methodLink "InsuredFlame$Text" (35 : Nat) ({ cls := "InsuredFlame$Sum", name := "told", desc := "(LInsuredFlame$Asked;)I" } : Jvm.MethodName)) ∈ lw_all := lw_g (lw_at lw_m4 118 rfl) rfl
theorem q972 : (Jvm.Cond.instanceMethod ({ cls := "InsuredFlame$Text", name := "says", desc := "(ILInsuredFlame$Asked;)Z" } : Jvm.MethodName)) ∈ lw_all := lw_g (lw_at lw_m4 139 rfl) rfl
theorem q973 : (Jvm.Cond.selects "InsuredFlame$Text" ({ cls := "InsuredFlame$Text", name := "says", desc := "(ILInsuredFlame$Asked;)Z" } : Jvm.MethodName) ({ cls := "InsuredFlame$Text", name := "says", desc := "(ILInsuredFlame$Asked;)Z" } : Jvm.MethodName)) ∈ lw_all := lw_g (lw_at lw_m4 140 rfl) rfl
theorem q974 : (Jvm.Cond.code ({ cls := "InsuredFlame$Text", name := "says", desc := "(ILInsuredFlame$Asked;)Z" } : Jvm.MethodName) prog_17_method_3_code (4 : Nat) (Option.some Jvm.ClassFile.FieldType.boolean)) ∈ lw_all := lw_g (lw_at lw_m4 141 rfl) rfl
theorem in_X5 : ∀ w ∈ wsX50, w ∈ lw_all := lw_in wsX50 [288, 290, 292, 294] (by decide +kernel) (by decide +kernel)
/-! InsuredFlame$Sum -/
set_option maxRecDepth 100000
def RX8 : String := "InsuredFlame$Sum"
abbrev cX8_init : ByteArray := prog_15_method_1_code
def yX8_init : MethodName := ⟨RX8, "<init>", "()V"⟩
theorem dX8_init_0 : decode cX8_init 0 = .ok (.aload_n 0, 1) := by decide +kernel
theorem dX8_init_1 : decode cX8_init 1 = .ok (.invokespecial 1, 3) := by decide +kernel
theorem dX8_init_4 : decode cX8_init 4 = .ok (.return_, 1) := by decide +kernel
abbrev cX8_told : ByteArray := prog_15_method_3_code
def yX8_told : MethodName := ⟨RX8, "told", "(LInsuredFlame$Asked;)I"⟩
def dkwX8_told_0 : List UInt8 := [43, 3, 181, 0, 7, 42, 43, 182, 0, 13, 61, 43, 180, 0, 7, 153, 0, 7, 3, 167, 0, 4, 28, 172]
abbrev dktX8_told_0 : List UInt8 := dkwX8_told_0 ++ []
theorem dksX8_told_0 : cX8_told.data.toList.drop 0 = dktX8_told_0 := by decide +kernel
theorem dX8_told_0 : decode cX8_told 0 = .ok (.aload_n 1, 1) := dk_43 (dk_at dksX8_told_0 0 rfl rfl)
theorem dX8_told_1 : decode cX8_told 1 = .ok (.iconst 0, 1) := dk_3 (dk_at dksX8_told_0 1 rfl rfl)
theorem dX8_told_2 : decode cX8_told 2 = .ok (.putfield 7, 3) := dk_181 0 7 (dk_at dksX8_told_0 2 rfl rfl)
theorem dX8_told_5 : decode cX8_told 5 = .ok (.aload_n 0, 1) := dk_42 (dk_at dksX8_told_0 5 rfl rfl)
theorem dX8_told_6 : decode cX8_told 6 = .ok (.aload_n 1, 1) := dk_43 (dk_at dksX8_told_0 6 rfl rfl)
theorem dX8_told_7 : decode cX8_told 7 = .ok (.invokevirtual 13, 3) := dk_182 0 13 (dk_at dksX8_told_0 7 rfl rfl)
theorem dX8_told_10 : decode cX8_told 10 = .ok (.istore_n 2, 1) := dk_61 (dk_at dksX8_told_0 10 rfl rfl)
theorem dX8_told_11 : decode cX8_told 11 = .ok (.aload_n 1, 1) := dk_43 (dk_at dksX8_told_0 11 rfl rfl)
theorem dX8_told_12 : decode cX8_told 12 = .ok (.getfield 7, 3) := dk_180 0 7 (dk_at dksX8_told_0 12 rfl rfl)
theorem dX8_told_15 : decode cX8_told 15 = .ok (.ifCond .eq 7, 3) := dk_153 0 7 (dk_at dksX8_told_0 15 rfl rfl)
theorem dX8_told_18 : decode cX8_told 18 = .ok (.iconst 0, 1) := dk_3 (dk_at dksX8_told_0 18 rfl rfl)
theorem dX8_told_19 : decode cX8_told 19 = .ok (.goto 4, 3) := dk_167 0 4 (dk_at dksX8_told_0 19 rfl rfl)
theorem dX8_told_22 : decode cX8_told 22 = .ok (.iload_n 2, 1) := dk_28 (dk_at dksX8_told_0 22 rfl rfl)
theorem dX8_told_23 : decode cX8_told 23 = .ok (.ireturn, 1) := dk_172 (dk_at dksX8_told_0 23 rfl rfl)
theorem q128 : (Jvm.Cond.initialized "InsuredFlame$Sum") ∈ lw_all := lw_g (lw_at lw_m1 15 rfl) rfl
theorem q168 : (Jvm.Cond.fieldLinkNest "InsuredFlame$Sum" (7 : Nat) "InsuredFlame$Asked" "isRefused" "Z" "InsuredFlame") ∈ lw_tbl := lw_at lw_m1 55 rfl
theorem q548 : (Jvm.Cond.instanceMethod ({ cls := "InsuredFlame$Sum", name := "<init>", desc := "()V" } : Jvm.MethodName)) ∈ lw_all := lw_g (lw_at lw_m2 195 rfl) rfl
theorem q549 : (Jvm.Cond.code ({ cls := "InsuredFlame$Sum", name := "<init>", desc := "()V" } : Jvm.MethodName) prog_15_method_1_code (1 : Nat) (Option.none : Option Jvm.ClassFile.FieldType)) ∈ lw_all := lw_g (lw_at lw_m2 196 rfl) rfl
theorem q550 : (Jvm.Cond.methodLink "InsuredFlame$Sum" (1 : Nat) ({ cls := "java/lang/Object", name := "<init>", desc := "()V" } : Jvm.MethodName)) ∈ lw_all := lw_g (lw_at lw_m2 197 rfl) rfl
theorem q922 : (Jvm.Cond.declares ({ cls := "InsuredFlame$Sum", name := "worth", desc := "(LInsuredFlame$Asked;)I" } : Jvm.MethodName)) ∈ lw_tbl := lw_at lw_m4 89 rfl
theorem q923 : (Jvm.Cond.sameMethod "InsuredFlame$Sum" "InsuredFlame$Sum" "worth" "(LInsuredFlame$Asked;)I") ∈ lw_all := lw_g (lw_at lw_m4 90 rfl) rfl
theorem q952 : (Jvm.Cond.instanceMethod ({ cls := "InsuredFlame$Sum", name := "told", desc := "(LInsuredFlame$Asked;)I" } : Jvm.MethodName)) ∈ lw_all := lw_g (lw_at lw_m4 119 rfl) rfl
theorem q953 : (Jvm.Cond.sameMethod "InsuredFlame$Sum" "InsuredFlame$Sum" "told" "(LInsuredFlame$Asked;)I") ∈ lw_all := lw_g (lw_at lw_m4 120 rfl) rfl
theorem q957 : (Jvm.Cond.code ({ cls := "InsuredFlame$Sum", name := "told", desc := "(LInsuredFlame$Asked;)I" } : Jvm.MethodName) prog_15_method_3_code (3 : Nat) (Option.some Jvm.ClassFile.FieldType.int)) ∈ lw_all := lw_g (lw_at lw_m4 124 rfl) rfl
theorem q958 : (Jvm.Cond.methodLink "InsuredFlame$Sum" (13 : Nat) ({ cls := "InsuredFlame$Sum", name := "worth", desc := "(LInsuredFlame$Asked;)I" } : Jvm.MethodName)) ∈ lw_all := lw_g (lw_at lw_m4 125 rfl) rfl
/-! InsuredFlame$Row -/
set_option maxRecDepth 100000
def RX9 : String := "InsuredFlame$Row"
def TX9 : u_T := fun k => match k with
  | 0 => ("InsuredFlame$Row", "sign", "I", true)
  | 1 => ("InsuredFlame$Row", "part", "LInsuredFlame$Sum;", true)
  | _ => ("InsuredFlame$Row", "next", "LInsuredFlame$Row;", false)
def tyX9 : Nat → FieldType := fun k => match k with
  | 0 => .int
  | 1 => .object "InsuredFlame$Sum"
  | _ => .object "InsuredFlame$Row"
abbrev wsX90 : List Cond := u_ws RX9 TX9 3
theorem nmX9 : ∀ a, a < 3 → ∀ b, b < 3 → a ≠ b → (TX9 a).2.1 ≠ (TX9 b).2.1 := by decide +kernel
theorem tyX9_ok : ∀ k, k < 3 → parseFieldDescriptor (TX9 k).2.2.1 = some (tyX9 k) := by decide +kernel
abbrev cX9_init : ByteArray := prog_12_method_1_code
def yX9_init : MethodName := ⟨RX9, "<init>", "(ILInsuredFlame$Sum;)V"⟩
def dkwX9_init_0 : List UInt8 := [42, 183, 0, 1, 42, 27, 181, 0, 7, 42, 44, 181, 0, 13, 177]
abbrev dktX9_init_0 : List UInt8 := dkwX9_init_0 ++ []
theorem dksX9_init_0 : cX9_init.data.toList.drop 0 = dktX9_init_0 := by decide +kernel
theorem dX9_init_0 : decode cX9_init 0 = .ok (.aload_n 0, 1) := dk_42 (dk_at dksX9_init_0 0 rfl rfl)
theorem dX9_init_1 : decode cX9_init 1 = .ok (.invokespecial 1, 3) := dk_183 0 1 (dk_at dksX9_init_0 1 rfl rfl)
theorem dX9_init_4 : decode cX9_init 4 = .ok (.aload_n 0, 1) := dk_42 (dk_at dksX9_init_0 4 rfl rfl)
theorem dX9_init_5 : decode cX9_init 5 = .ok (.iload_n 1, 1) := dk_27 (dk_at dksX9_init_0 5 rfl rfl)
theorem dX9_init_6 : decode cX9_init 6 = .ok (.putfield 7, 3) := dk_181 0 7 (dk_at dksX9_init_0 6 rfl rfl)
theorem dX9_init_9 : decode cX9_init 9 = .ok (.aload_n 0, 1) := dk_42 (dk_at dksX9_init_0 9 rfl rfl)
theorem dX9_init_10 : decode cX9_init 10 = .ok (.aload_n 2, 1) := dk_44 (dk_at dksX9_init_0 10 rfl rfl)
theorem dX9_init_11 : decode cX9_init 11 = .ok (.putfield 13, 3) := dk_181 0 13 (dk_at dksX9_init_0 11 rfl rfl)
theorem dX9_init_14 : decode cX9_init 14 = .ok (.return_, 1) := dk_177 (dk_at dksX9_init_0 14 rfl rfl)
abbrev cX9_worth : ByteArray := prog_12_method_3_code
def yX9_worth : MethodName := ⟨RX9, "worth", "(LInsuredFlame$Asked;)I"⟩
def dkwX9_worth_1 : List UInt8 := [180, 0, 13, 43, 182, 0, 23, 43, 184, 0, 31, 61, 45, 180, 0, 27, 78, 167, 255, 229, 28, 172]
abbrev dktX9_worth_1 : List UInt8 := dkwX9_worth_1 ++ []
def dkwX9_worth_0 : List UInt8 := [42, 180, 0, 13, 43, 182, 0, 23, 61, 42, 180, 0, 27, 78, 45, 198, 0, 29, 45, 180, 0, 7, 28, 45]
abbrev dktX9_worth_0 : List UInt8 := dkwX9_worth_0 ++ dktX9_worth_1
theorem dksX9_worth_0 : cX9_worth.data.toList.drop 0 = dktX9_worth_0 := by decide +kernel
theorem dksX9_worth_1 : cX9_worth.data.toList.drop 24 = dktX9_worth_1 := dk_seg dksX9_worth_0 24 rfl rfl
theorem dX9_worth_0 : decode cX9_worth 0 = .ok (.aload_n 0, 1) := dk_42 (dk_at dksX9_worth_0 0 rfl rfl)
theorem dX9_worth_1 : decode cX9_worth 1 = .ok (.getfield 13, 3) := dk_180 0 13 (dk_at dksX9_worth_0 1 rfl rfl)
theorem dX9_worth_4 : decode cX9_worth 4 = .ok (.aload_n 1, 1) := dk_43 (dk_at dksX9_worth_0 4 rfl rfl)
theorem dX9_worth_5 : decode cX9_worth 5 = .ok (.invokevirtual 23, 3) := dk_182 0 23 (dk_at dksX9_worth_0 5 rfl rfl)
theorem dX9_worth_8 : decode cX9_worth 8 = .ok (.istore_n 2, 1) := dk_61 (dk_at dksX9_worth_0 8 rfl rfl)
theorem dX9_worth_9 : decode cX9_worth 9 = .ok (.aload_n 0, 1) := dk_42 (dk_at dksX9_worth_0 9 rfl rfl)
theorem dX9_worth_10 : decode cX9_worth 10 = .ok (.getfield 27, 3) := dk_180 0 27 (dk_at dksX9_worth_0 10 rfl rfl)
theorem dX9_worth_13 : decode cX9_worth 13 = .ok (.astore_n 3, 1) := dk_78 (dk_at dksX9_worth_0 13 rfl rfl)
theorem dX9_worth_14 : decode cX9_worth 14 = .ok (.aload_n 3, 1) := dk_45 (dk_at dksX9_worth_0 14 rfl rfl)
theorem dX9_worth_15 : decode cX9_worth 15 = .ok (.ifnull 29, 3) := dk_198 0 29 (dk_at dksX9_worth_0 15 rfl rfl)
theorem dX9_worth_18 : decode cX9_worth 18 = .ok (.aload_n 3, 1) := dk_45 (dk_at dksX9_worth_0 18 rfl rfl)
theorem dX9_worth_19 : decode cX9_worth 19 = .ok (.getfield 7, 3) := dk_180 0 7 (dk_at dksX9_worth_0 19 rfl rfl)
theorem dX9_worth_22 : decode cX9_worth 22 = .ok (.iload_n 2, 1) := dk_28 (dk_at dksX9_worth_0 22 rfl rfl)
theorem dX9_worth_23 : decode cX9_worth 23 = .ok (.aload_n 3, 1) := dk_45 (dk_at dksX9_worth_0 23 rfl rfl)
theorem dX9_worth_24 : decode cX9_worth 24 = .ok (.getfield 13, 3) := dk_180 0 13 (dk_at dksX9_worth_1 0 rfl rfl)
theorem dX9_worth_27 : decode cX9_worth 27 = .ok (.aload_n 1, 1) := dk_43 (dk_at dksX9_worth_1 3 rfl rfl)
theorem dX9_worth_28 : decode cX9_worth 28 = .ok (.invokevirtual 23, 3) := dk_182 0 23 (dk_at dksX9_worth_1 4 rfl rfl)
theorem dX9_worth_31 : decode cX9_worth 31 = .ok (.aload_n 1, 1) := dk_43 (dk_at dksX9_worth_1 7 rfl rfl)
theorem dX9_worth_32 : decode cX9_worth 32 = .ok (.invokestatic 31, 3) := dk_184 0 31 (dk_at dksX9_worth_1 8 rfl rfl)
theorem dX9_worth_35 : decode cX9_worth 35 = .ok (.istore_n 2, 1) := dk_61 (dk_at dksX9_worth_1 11 rfl rfl)
theorem dX9_worth_36 : decode cX9_worth 36 = .ok (.aload_n 3, 1) := dk_45 (dk_at dksX9_worth_1 12 rfl rfl)
theorem dX9_worth_37 : decode cX9_worth 37 = .ok (.getfield 27, 3) := dk_180 0 27 (dk_at dksX9_worth_1 13 rfl rfl)
theorem dX9_worth_40 : decode cX9_worth 40 = .ok (.astore_n 3, 1) := dk_78 (dk_at dksX9_worth_1 16 rfl rfl)
theorem dX9_worth_41 : decode cX9_worth 41 = .ok (.goto (-27), 3) := dk_167 255 229 (dk_at dksX9_worth_1 17 rfl rfl)
theorem dX9_worth_44 : decode cX9_worth 44 = .ok (.iload_n 2, 1) := dk_28 (dk_at dksX9_worth_1 20 rfl rfl)
theorem dX9_worth_45 : decode cX9_worth 45 = .ok (.ireturn, 1) := dk_172 (dk_at dksX9_worth_1 21 rfl rfl)
abbrev cX9_worked : ByteArray := prog_12_method_2_code
def yX9_worked : MethodName := ⟨RX9, "worked", "(IIILInsuredFlame$Asked;)I"⟩
def dkwX9_worked_3 : List UInt8 := [154, 0, 7, 3, 167, 0, 18, 26, 16, 47, 160, 0, 9, 27, 28, 108, 167, 0, 6, 27, 28, 112, 172]
abbrev dktX9_worked_3 : List UInt8 := dkwX9_worked_3 ++ []
def dkwX9_worked_2 : List UInt8 := [27, 28, 96, 172, 27, 28, 100, 172, 27, 28, 104, 172, 28, 154, 0, 8, 45, 4, 181, 0, 17, 28]
abbrev dktX9_worked_2 : List UInt8 := dkwX9_worked_2 ++ dktX9_worked_3
def dkwX9_worked_1 : List UInt8 := [170, 0, 0, 0, 0, 0, 43, 0, 0, 0, 42, 0, 0, 0, 45, 0, 0, 0, 39, 0, 0, 0, 31, 0, 0, 0, 43, 0, 0, 0, 35]
abbrev dktX9_worked_1 : List UInt8 := dkwX9_worked_1 ++ dktX9_worked_2
def dkwX9_worked_0 : List UInt8 := [26]
abbrev dktX9_worked_0 : List UInt8 := dkwX9_worked_0 ++ dktX9_worked_1
theorem dksX9_worked_0 : cX9_worked.data.toList.drop 0 = dktX9_worked_0 := by decide +kernel
theorem dksX9_worked_1 : cX9_worked.data.toList.drop 1 = dktX9_worked_1 := dk_seg dksX9_worked_0 1 rfl rfl
theorem dksX9_worked_2 : cX9_worked.data.toList.drop 32 = dktX9_worked_2 := dk_seg dksX9_worked_1 31 rfl rfl
theorem dksX9_worked_3 : cX9_worked.data.toList.drop 54 = dktX9_worked_3 := dk_seg dksX9_worked_2 22 rfl rfl
theorem dX9_worked_0 : decode cX9_worked 0 = .ok (.iload_n 0, 1) := dk_26 (dk_at dksX9_worked_0 0 rfl rfl)
theorem dX9_worked_1 : decode cX9_worked 1 = .ok (.tableswitch 43 42 45 #[39, 31, 43, 35], 31) := by decide +kernel
theorem dX9_worked_32 : decode cX9_worked 32 = .ok (.iload_n 1, 1) := dk_27 (dk_at dksX9_worked_2 0 rfl rfl)
theorem dX9_worked_33 : decode cX9_worked 33 = .ok (.iload_n 2, 1) := dk_28 (dk_at dksX9_worked_2 1 rfl rfl)
theorem dX9_worked_34 : decode cX9_worked 34 = .ok (.iadd, 1) := dk_96 (dk_at dksX9_worked_2 2 rfl rfl)
theorem dX9_worked_35 : decode cX9_worked 35 = .ok (.ireturn, 1) := dk_172 (dk_at dksX9_worked_2 3 rfl rfl)
theorem dX9_worked_36 : decode cX9_worked 36 = .ok (.iload_n 1, 1) := dk_27 (dk_at dksX9_worked_2 4 rfl rfl)
theorem dX9_worked_37 : decode cX9_worked 37 = .ok (.iload_n 2, 1) := dk_28 (dk_at dksX9_worked_2 5 rfl rfl)
theorem dX9_worked_38 : decode cX9_worked 38 = .ok (.isub, 1) := dk_100 (dk_at dksX9_worked_2 6 rfl rfl)
theorem dX9_worked_39 : decode cX9_worked 39 = .ok (.ireturn, 1) := dk_172 (dk_at dksX9_worked_2 7 rfl rfl)
theorem dX9_worked_40 : decode cX9_worked 40 = .ok (.iload_n 1, 1) := dk_27 (dk_at dksX9_worked_2 8 rfl rfl)
theorem dX9_worked_41 : decode cX9_worked 41 = .ok (.iload_n 2, 1) := dk_28 (dk_at dksX9_worked_2 9 rfl rfl)
theorem dX9_worked_42 : decode cX9_worked 42 = .ok (.imul, 1) := dk_104 (dk_at dksX9_worked_2 10 rfl rfl)
theorem dX9_worked_43 : decode cX9_worked 43 = .ok (.ireturn, 1) := dk_172 (dk_at dksX9_worked_2 11 rfl rfl)
theorem dX9_worked_44 : decode cX9_worked 44 = .ok (.iload_n 2, 1) := dk_28 (dk_at dksX9_worked_2 12 rfl rfl)
theorem dX9_worked_45 : decode cX9_worked 45 = .ok (.ifCond .ne 8, 3) := dk_154 0 8 (dk_at dksX9_worked_2 13 rfl rfl)
theorem dX9_worked_48 : decode cX9_worked 48 = .ok (.aload_n 3, 1) := dk_45 (dk_at dksX9_worked_2 16 rfl rfl)
theorem dX9_worked_49 : decode cX9_worked 49 = .ok (.iconst 1, 1) := dk_4 (dk_at dksX9_worked_2 17 rfl rfl)
theorem dX9_worked_50 : decode cX9_worked 50 = .ok (.putfield 17, 3) := dk_181 0 17 (dk_at dksX9_worked_2 18 rfl rfl)
theorem dX9_worked_53 : decode cX9_worked 53 = .ok (.iload_n 2, 1) := dk_28 (dk_at dksX9_worked_2 21 rfl rfl)
theorem dX9_worked_54 : decode cX9_worked 54 = .ok (.ifCond .ne 7, 3) := dk_154 0 7 (dk_at dksX9_worked_3 0 rfl rfl)
theorem dX9_worked_57 : decode cX9_worked 57 = .ok (.iconst 0, 1) := dk_3 (dk_at dksX9_worked_3 3 rfl rfl)
theorem dX9_worked_58 : decode cX9_worked 58 = .ok (.goto 18, 3) := dk_167 0 18 (dk_at dksX9_worked_3 4 rfl rfl)
theorem dX9_worked_61 : decode cX9_worked 61 = .ok (.iload_n 0, 1) := dk_26 (dk_at dksX9_worked_3 7 rfl rfl)
theorem dX9_worked_62 : decode cX9_worked 62 = .ok (.bipush 47, 2) := dk_16 47 (dk_at dksX9_worked_3 8 rfl rfl)
theorem dX9_worked_64 : decode cX9_worked 64 = .ok (.if_icmp .ne 9, 3) := dk_160 0 9 (dk_at dksX9_worked_3 10 rfl rfl)
theorem dX9_worked_67 : decode cX9_worked 67 = .ok (.iload_n 1, 1) := dk_27 (dk_at dksX9_worked_3 13 rfl rfl)
theorem dX9_worked_68 : decode cX9_worked 68 = .ok (.iload_n 2, 1) := dk_28 (dk_at dksX9_worked_3 14 rfl rfl)
theorem dX9_worked_69 : decode cX9_worked 69 = .ok (.idiv, 1) := dk_108 (dk_at dksX9_worked_3 15 rfl rfl)
theorem dX9_worked_70 : decode cX9_worked 70 = .ok (.goto 6, 3) := dk_167 0 6 (dk_at dksX9_worked_3 16 rfl rfl)
theorem dX9_worked_73 : decode cX9_worked 73 = .ok (.iload_n 1, 1) := dk_27 (dk_at dksX9_worked_3 19 rfl rfl)
theorem dX9_worked_74 : decode cX9_worked 74 = .ok (.iload_n 2, 1) := dk_28 (dk_at dksX9_worked_3 20 rfl rfl)
theorem dX9_worked_75 : decode cX9_worked 75 = .ok (.irem, 1) := dk_112 (dk_at dksX9_worked_3 21 rfl rfl)
theorem dX9_worked_76 : decode cX9_worked 76 = .ok (.ireturn, 1) := dk_172 (dk_at dksX9_worked_3 22 rfl rfl)
theorem q129 : (Jvm.Cond.initialized "InsuredFlame$Row") ∈ lw_all := lw_g (lw_at lw_m1 16 rfl) rfl
theorem q167 : (Jvm.Cond.fieldLinkNest "InsuredFlame$Row" (17 : Nat) "InsuredFlame$Asked" "isRefused" "Z" "InsuredFlame") ∈ lw_tbl := lw_at lw_m1 54 rfl
theorem q517 : (Jvm.Cond.instantiable "InsuredFlame$Row" (3 : Nat)) ∈ lw_all := lw_g (lw_at lw_m2 164 rfl) rfl
theorem q567 : (Jvm.Cond.instanceMethod ({ cls := "InsuredFlame$Row", name := "<init>", desc := "(ILInsuredFlame$Sum;)V" } : Jvm.MethodName)) ∈ lw_all := lw_g (lw_at lw_m2 214 rfl) rfl
theorem q568 : (Jvm.Cond.code ({ cls := "InsuredFlame$Row", name := "<init>", desc := "(ILInsuredFlame$Sum;)V" } : Jvm.MethodName) prog_12_method_1_code (3 : Nat) (Option.none : Option Jvm.ClassFile.FieldType)) ∈ lw_all := lw_g (lw_at lw_m2 215 rfl) rfl
theorem q569 : (Jvm.Cond.methodLinkNest "InsuredFlame$Row" (1 : Nat) ({ cls := "InsuredFlame$Sum", name := "<init>", desc := "()V" } : Jvm.MethodName) "InsuredFlame") ∈ lw_tbl := lw_at lw_m2 216 rfl
theorem q570 : (Jvm.Cond.fieldLink "InsuredFlame$Row" (7 : Nat) "InsuredFlame$Row" "sign" "I") ∈ lw_all := lw_g (lw_at lw_m2 217 rfl) rfl
theorem q571 : (Jvm.Cond.fieldLink "InsuredFlame$Row" (13 : Nat) "InsuredFlame$Row" "part" "LInsuredFlame$Sum;") ∈ lw_all := lw_g (lw_at lw_m2 218 rfl) rfl
theorem q572 : (Jvm.Cond.fieldLink "InsuredFlame$Row" (27 : Nat) "InsuredFlame$Row" "next" "LInsuredFlame$Row;") ∈ lw_all := lw_g (lw_at lw_m2 219 rfl) rfl
theorem q574 : (Jvm.Cond.laysFinal "InsuredFlame$Row" "InsuredFlame$Row" "sign" "I") ∈ lw_all := lw_g (lw_at lw_m2 221 rfl) rfl
theorem q575 : (Jvm.Cond.soleField "InsuredFlame$Row" "sign") ∈ lw_all := lw_g (lw_at lw_m2 222 rfl) rfl
theorem q576 : (Jvm.Cond.laysFinal "InsuredFlame$Row" "InsuredFlame$Row" "part" "LInsuredFlame$Sum;") ∈ lw_all := lw_g (lw_at lw_m2 223 rfl) rfl
theorem q577 : (Jvm.Cond.soleField "InsuredFlame$Row" "part") ∈ lw_all := lw_g (lw_at lw_m2 224 rfl) rfl
theorem q578 : (Jvm.Cond.lays "InsuredFlame$Row" "InsuredFlame$Row" "next" "LInsuredFlame$Row;") ∈ lw_all := lw_g (lw_at lw_m2 225 rfl) rfl
theorem q579 : (Jvm.Cond.soleField "InsuredFlame$Row" "next") ∈ lw_all := lw_g (lw_at lw_m2 226 rfl) rfl
theorem q580 : (Jvm.Cond.superclass "InsuredFlame$Row" "InsuredFlame$Sum") ∈ lw_all := lw_g (lw_at lw_m2 227 rfl) rfl
theorem q936 : (Jvm.Cond.selects "InsuredFlame$Row" ({ cls := "InsuredFlame$Sum", name := "worth", desc := "(LInsuredFlame$Asked;)I" } : Jvm.MethodName) ({ cls := "InsuredFlame$Row", name := "worth", desc := "(LInsuredFlame$Asked;)I" } : Jvm.MethodName)) ∈ lw_all := lw_g (lw_at lw_m4 103 rfl) rfl
theorem q937 : (Jvm.Cond.instanceMethod ({ cls := "InsuredFlame$Row", name := "worth", desc := "(LInsuredFlame$Asked;)I" } : Jvm.MethodName)) ∈ lw_all := lw_g (lw_at lw_m4 104 rfl) rfl
theorem q938 : (Jvm.Cond.code ({ cls := "InsuredFlame$Row", name := "worth", desc := "(LInsuredFlame$Asked;)I" } : Jvm.MethodName) prog_12_method_3_code (4 : Nat) (Option.some Jvm.ClassFile.FieldType.int)) ∈ lw_all := lw_g (lw_at lw_m4 105 rfl) rfl
theorem q939 : (Jvm.Cond.methodLink "InsuredFlame$Row" (23 : Nat) ({ cls := "InsuredFlame$Sum", name := "worth", desc := "(LInsuredFlame$Asked;)I" } : Jvm.MethodName)) ∈ lw_all := lw_g (lw_at lw_m4 106 rfl) rfl
theorem q940 : (Jvm.Cond.methodLink "InsuredFlame$Row" (31 : Nat) ({ cls := "InsuredFlame$Row", name := "worked", desc := "(IIILInsuredFlame$Asked;)I" } : Jvm.MethodName)) ∈ lw_all := lw_g (lw_at lw_m4 107 rfl) rfl
theorem q941 : (Jvm.Cond.static ({ cls := "InsuredFlame$Row", name := "worked", desc := "(IIILInsuredFlame$Asked;)I" } : Jvm.MethodName)) ∈ lw_all := lw_g (lw_at lw_m4 108 rfl) rfl
theorem q942 : (Jvm.Cond.code ({ cls := "InsuredFlame$Row", name := "worked", desc := "(IIILInsuredFlame$Asked;)I" } : Jvm.MethodName) prog_12_method_2_code (4 : Nat) (Option.some Jvm.ClassFile.FieldType.int)) ∈ lw_all := lw_g (lw_at lw_m4 109 rfl) rfl
theorem q956 : (Jvm.Cond.selects "InsuredFlame$Row" ({ cls := "InsuredFlame$Sum", name := "told", desc := "(LInsuredFlame$Asked;)I" } : Jvm.MethodName) ({ cls := "InsuredFlame$Sum", name := "told", desc := "(LInsuredFlame$Asked;)I" } : Jvm.MethodName)) ∈ lw_all := lw_g (lw_at lw_m4 123 rfl) rfl
theorem q1741 : (Jvm.Cond.castable "InsuredFlame$Row" "InsuredFlame$Sum") ∈ lw_tbl := lw_at lw_m7 188 rfl
theorem in_X9 : ∀ w ∈ wsX90, w ∈ lw_all := lw_in wsX90 [574, 576, 578] (by decide +kernel) (by decide +kernel)
/-! InsuredFlame$Number -/
set_option maxRecDepth 100000
def RX10 : String := "InsuredFlame$Number"
def TX10 : u_T := fun k => match k with
  | _ => ("InsuredFlame$Number", "n", "I", true)
def tyX10 : Nat → FieldType := fun k => match k with
  | _ => .int
abbrev wsX100 : List Cond := u_ws RX10 TX10 1
theorem nmX10 : ∀ a, a < 1 → ∀ b, b < 1 → a ≠ b → (TX10 a).2.1 ≠ (TX10 b).2.1 := by decide +kernel
theorem tyX10_ok : ∀ k, k < 1 → parseFieldDescriptor (TX10 k).2.2.1 = some (tyX10 k) := by decide +kernel
abbrev cX10_init : ByteArray := prog_10_method_1_code
def yX10_init : MethodName := ⟨RX10, "<init>", "(I)V"⟩
def dkwX10_init_0 : List UInt8 := [42, 183, 0, 1, 42, 27, 181, 0, 7, 177]
abbrev dktX10_init_0 : List UInt8 := dkwX10_init_0 ++ []
theorem dksX10_init_0 : cX10_init.data.toList.drop 0 = dktX10_init_0 := by decide +kernel
theorem dX10_init_0 : decode cX10_init 0 = .ok (.aload_n 0, 1) := dk_42 (dk_at dksX10_init_0 0 rfl rfl)
theorem dX10_init_1 : decode cX10_init 1 = .ok (.invokespecial 1, 3) := dk_183 0 1 (dk_at dksX10_init_0 1 rfl rfl)
theorem dX10_init_4 : decode cX10_init 4 = .ok (.aload_n 0, 1) := dk_42 (dk_at dksX10_init_0 4 rfl rfl)
theorem dX10_init_5 : decode cX10_init 5 = .ok (.iload_n 1, 1) := dk_27 (dk_at dksX10_init_0 5 rfl rfl)
theorem dX10_init_6 : decode cX10_init 6 = .ok (.putfield 7, 3) := dk_181 0 7 (dk_at dksX10_init_0 6 rfl rfl)
theorem dX10_init_9 : decode cX10_init 9 = .ok (.return_, 1) := dk_177 (dk_at dksX10_init_0 9 rfl rfl)
abbrev cX10_worth : ByteArray := prog_10_method_2_code
def yX10_worth : MethodName := ⟨RX10, "worth", "(LInsuredFlame$Asked;)I"⟩
theorem dX10_worth_0 : decode cX10_worth 0 = .ok (.aload_n 0, 1) := by decide +kernel
theorem dX10_worth_1 : decode cX10_worth 1 = .ok (.getfield 7, 3) := by decide +kernel
theorem dX10_worth_4 : decode cX10_worth 4 = .ok (.ireturn, 1) := by decide +kernel
theorem q130 : (Jvm.Cond.initialized "InsuredFlame$Number") ∈ lw_all := lw_g (lw_at lw_m1 17 rfl) rfl
theorem q539 : (Jvm.Cond.instantiable "InsuredFlame$Number" (1 : Nat)) ∈ lw_all := lw_g (lw_at lw_m2 186 rfl) rfl
theorem q545 : (Jvm.Cond.instanceMethod ({ cls := "InsuredFlame$Number", name := "<init>", desc := "(I)V" } : Jvm.MethodName)) ∈ lw_all := lw_g (lw_at lw_m2 192 rfl) rfl
theorem q546 : (Jvm.Cond.code ({ cls := "InsuredFlame$Number", name := "<init>", desc := "(I)V" } : Jvm.MethodName) prog_10_method_1_code (2 : Nat) (Option.none : Option Jvm.ClassFile.FieldType)) ∈ lw_all := lw_g (lw_at lw_m2 193 rfl) rfl
theorem q547 : (Jvm.Cond.methodLinkNest "InsuredFlame$Number" (1 : Nat) ({ cls := "InsuredFlame$Sum", name := "<init>", desc := "()V" } : Jvm.MethodName) "InsuredFlame") ∈ lw_tbl := lw_at lw_m2 194 rfl
theorem q551 : (Jvm.Cond.fieldLink "InsuredFlame$Number" (7 : Nat) "InsuredFlame$Number" "n" "I") ∈ lw_all := lw_g (lw_at lw_m2 198 rfl) rfl
theorem q552 : (Jvm.Cond.laysFinal "InsuredFlame$Number" "InsuredFlame$Number" "n" "I") ∈ lw_all := lw_g (lw_at lw_m2 199 rfl) rfl
theorem q553 : (Jvm.Cond.soleField "InsuredFlame$Number" "n") ∈ lw_all := lw_g (lw_at lw_m2 200 rfl) rfl
theorem q554 : (Jvm.Cond.superclass "InsuredFlame$Number" "InsuredFlame$Sum") ∈ lw_all := lw_g (lw_at lw_m2 201 rfl) rfl
theorem q933 : (Jvm.Cond.selects "InsuredFlame$Number" ({ cls := "InsuredFlame$Sum", name := "worth", desc := "(LInsuredFlame$Asked;)I" } : Jvm.MethodName) ({ cls := "InsuredFlame$Number", name := "worth", desc := "(LInsuredFlame$Asked;)I" } : Jvm.MethodName)) ∈ lw_all := lw_g (lw_at lw_m4 100 rfl) rfl
theorem q934 : (Jvm.Cond.instanceMethod ({ cls := "InsuredFlame$Number", name := "worth", desc := "(LInsuredFlame$Asked;)I" } : Jvm.MethodName)) ∈ lw_all := lw_g (lw_at lw_m4 101 rfl) rfl
theorem q935 : (Jvm.Cond.code ({ cls := "InsuredFlame$Number", name := "worth", desc := "(LInsuredFlame$Asked;)I" } : Jvm.MethodName) prog_10_method_2_code (2 : Nat) (Option.some Jvm.ClassFile.FieldType.int)) ∈ lw_all := lw_g (lw_at lw_m4 102 rfl) rfl
theorem q955 : (Jvm.Cond.selects "InsuredFlame$Number" ({ cls := "InsuredFlame$Sum", name := "told", desc := "(LInsuredFlame$Asked;)I" } : Jvm.MethodName) ({ cls := "InsuredFlame$Sum", name := "told", desc := "(LInsuredFlame$Asked;)I" } : Jvm.MethodName)) ∈ lw_all := lw_g (lw_at lw_m4 122 rfl) rfl
theorem q1742 : (Jvm.Cond.castable "InsuredFlame$Number" "InsuredFlame$Sum") ∈ lw_tbl := lw_at lw_m7 189 rfl
theorem in_X10 : ∀ w ∈ wsX100, w ∈ lw_all := lw_in wsX100 [552] (by decide +kernel) (by decide +kernel)
/-! InsuredFlame$Letter -/
set_option maxRecDepth 100000
def RX11 : String := "InsuredFlame$Letter"
def TX11 : u_T := fun k => match k with
  | _ => ("InsuredFlame$Letter", "letter", "I", true)
def tyX11 : Nat → FieldType := fun k => match k with
  | _ => .int
abbrev wsX110 : List Cond := u_ws RX11 TX11 1
theorem nmX11 : ∀ a, a < 1 → ∀ b, b < 1 → a ≠ b → (TX11 a).2.1 ≠ (TX11 b).2.1 := by decide +kernel
theorem tyX11_ok : ∀ k, k < 1 → parseFieldDescriptor (TX11 k).2.2.1 = some (tyX11 k) := by decide +kernel
abbrev cX11_init : ByteArray := prog_7_method_1_code
def yX11_init : MethodName := ⟨RX11, "<init>", "(I)V"⟩
def dkwX11_init_0 : List UInt8 := [42, 183, 0, 1, 42, 27, 181, 0, 7, 177]
abbrev dktX11_init_0 : List UInt8 := dkwX11_init_0 ++ []
theorem dksX11_init_0 : cX11_init.data.toList.drop 0 = dktX11_init_0 := by decide +kernel
theorem dX11_init_0 : decode cX11_init 0 = .ok (.aload_n 0, 1) := dk_42 (dk_at dksX11_init_0 0 rfl rfl)
theorem dX11_init_1 : decode cX11_init 1 = .ok (.invokespecial 1, 3) := dk_183 0 1 (dk_at dksX11_init_0 1 rfl rfl)
theorem dX11_init_4 : decode cX11_init 4 = .ok (.aload_n 0, 1) := dk_42 (dk_at dksX11_init_0 4 rfl rfl)
theorem dX11_init_5 : decode cX11_init 5 = .ok (.iload_n 1, 1) := dk_27 (dk_at dksX11_init_0 5 rfl rfl)
theorem dX11_init_6 : decode cX11_init 6 = .ok (.putfield 7, 3) := dk_181 0 7 (dk_at dksX11_init_0 6 rfl rfl)
theorem dX11_init_9 : decode cX11_init 9 = .ok (.return_, 1) := dk_177 (dk_at dksX11_init_0 9 rfl rfl)
abbrev cX11_worth : ByteArray := prog_7_method_2_code
def yX11_worth : MethodName := ⟨RX11, "worth", "(LInsuredFlame$Asked;)I"⟩
def dkwX11_worth_0 : List UInt8 := [43, 42, 180, 0, 7, 182, 0, 13, 172]
abbrev dktX11_worth_0 : List UInt8 := dkwX11_worth_0 ++ []
theorem dksX11_worth_0 : cX11_worth.data.toList.drop 0 = dktX11_worth_0 := by decide +kernel
theorem dX11_worth_0 : decode cX11_worth 0 = .ok (.aload_n 1, 1) := dk_43 (dk_at dksX11_worth_0 0 rfl rfl)
theorem dX11_worth_1 : decode cX11_worth 1 = .ok (.aload_n 0, 1) := dk_42 (dk_at dksX11_worth_0 1 rfl rfl)
theorem dX11_worth_2 : decode cX11_worth 2 = .ok (.getfield 7, 3) := dk_180 0 7 (dk_at dksX11_worth_0 2 rfl rfl)
theorem dX11_worth_5 : decode cX11_worth 5 = .ok (.invokevirtual 13, 3) := dk_182 0 13 (dk_at dksX11_worth_0 5 rfl rfl)
theorem dX11_worth_8 : decode cX11_worth 8 = .ok (.ireturn, 1) := dk_172 (dk_at dksX11_worth_0 8 rfl rfl)
theorem q131 : (Jvm.Cond.initialized "InsuredFlame$Letter") ∈ lw_all := lw_g (lw_at lw_m1 18 rfl) rfl
theorem q557 : (Jvm.Cond.instantiable "InsuredFlame$Letter" (1 : Nat)) ∈ lw_all := lw_g (lw_at lw_m2 204 rfl) rfl
theorem q559 : (Jvm.Cond.instanceMethod ({ cls := "InsuredFlame$Letter", name := "<init>", desc := "(I)V" } : Jvm.MethodName)) ∈ lw_all := lw_g (lw_at lw_m2 206 rfl) rfl
theorem q560 : (Jvm.Cond.code ({ cls := "InsuredFlame$Letter", name := "<init>", desc := "(I)V" } : Jvm.MethodName) prog_7_method_1_code (2 : Nat) (Option.none : Option Jvm.ClassFile.FieldType)) ∈ lw_all := lw_g (lw_at lw_m2 207 rfl) rfl
theorem q561 : (Jvm.Cond.methodLinkNest "InsuredFlame$Letter" (1 : Nat) ({ cls := "InsuredFlame$Sum", name := "<init>", desc := "()V" } : Jvm.MethodName) "InsuredFlame") ∈ lw_tbl := lw_at lw_m2 208 rfl
theorem q562 : (Jvm.Cond.fieldLink "InsuredFlame$Letter" (7 : Nat) "InsuredFlame$Letter" "letter" "I") ∈ lw_all := lw_g (lw_at lw_m2 209 rfl) rfl
theorem q563 : (Jvm.Cond.laysFinal "InsuredFlame$Letter" "InsuredFlame$Letter" "letter" "I") ∈ lw_all := lw_g (lw_at lw_m2 210 rfl) rfl
theorem q564 : (Jvm.Cond.soleField "InsuredFlame$Letter" "letter") ∈ lw_all := lw_g (lw_at lw_m2 211 rfl) rfl
theorem q565 : (Jvm.Cond.superclass "InsuredFlame$Letter" "InsuredFlame$Sum") ∈ lw_all := lw_g (lw_at lw_m2 212 rfl) rfl
theorem q924 : (Jvm.Cond.selects "InsuredFlame$Letter" ({ cls := "InsuredFlame$Sum", name := "worth", desc := "(LInsuredFlame$Asked;)I" } : Jvm.MethodName) ({ cls := "InsuredFlame$Letter", name := "worth", desc := "(LInsuredFlame$Asked;)I" } : Jvm.MethodName)) ∈ lw_all := lw_g (lw_at lw_m4 91 rfl) rfl
theorem q925 : (Jvm.Cond.instanceMethod ({ cls := "InsuredFlame$Letter", name := "worth", desc := "(LInsuredFlame$Asked;)I" } : Jvm.MethodName)) ∈ lw_all := lw_g (lw_at lw_m4 92 rfl) rfl
theorem q926 : (Jvm.Cond.code ({ cls := "InsuredFlame$Letter", name := "worth", desc := "(LInsuredFlame$Asked;)I" } : Jvm.MethodName) prog_7_method_2_code (2 : Nat) (Option.some Jvm.ClassFile.FieldType.int)) ∈ lw_all := lw_g (lw_at lw_m4 93 rfl) rfl
theorem q927 : (Jvm.Cond.methodLink "InsuredFlame$Letter" (13 : Nat) ({ cls := "InsuredFlame$Asked", name := "value", desc := "(I)I" } : Jvm.MethodName)) ∈ lw_all := lw_g (lw_at lw_m4 94 rfl) rfl
theorem q954 : (Jvm.Cond.selects "InsuredFlame$Letter" ({ cls := "InsuredFlame$Sum", name := "told", desc := "(LInsuredFlame$Asked;)I" } : Jvm.MethodName) ({ cls := "InsuredFlame$Sum", name := "told", desc := "(LInsuredFlame$Asked;)I" } : Jvm.MethodName)) ∈ lw_all := lw_g (lw_at lw_m4 121 rfl) rfl
theorem q1743 : (Jvm.Cond.castable "InsuredFlame$Letter" "InsuredFlame$Sum") ∈ lw_tbl := lw_at lw_m7 190 rfl
theorem in_X11 : ∀ w ∈ wsX110, w ∈ lw_all := lw_in wsX110 [563] (by decide +kernel) (by decide +kernel)
/-! InsuredFlame$Condition -/
set_option maxRecDepth 100000
def RX12 : String := "InsuredFlame$Condition"
abbrev cX12_init : ByteArray := prog_5_method_1_code
def yX12_init : MethodName := ⟨RX12, "<init>", "()V"⟩
theorem dX12_init_0 : decode cX12_init 0 = .ok (.aload_n 0, 1) := by decide +kernel
theorem dX12_init_1 : decode cX12_init 1 = .ok (.invokespecial 1, 3) := by decide +kernel
theorem dX12_init_4 : decode cX12_init 4 = .ok (.return_, 1) := by decide +kernel
theorem q132 : (Jvm.Cond.initialized "InsuredFlame$Condition") ∈ lw_all := lw_g (lw_at lw_m1 19 rfl) rfl
theorem q601 : (Jvm.Cond.instanceMethod ({ cls := "InsuredFlame$Condition", name := "<init>", desc := "()V" } : Jvm.MethodName)) ∈ lw_all := lw_g (lw_at lw_m3 8 rfl) rfl
theorem q602 : (Jvm.Cond.code ({ cls := "InsuredFlame$Condition", name := "<init>", desc := "()V" } : Jvm.MethodName) prog_5_method_1_code (1 : Nat) (Option.none : Option Jvm.ClassFile.FieldType)) ∈ lw_all := lw_g (lw_at lw_m3 9 rfl) rfl
theorem q603 : (Jvm.Cond.methodLink "InsuredFlame$Condition" (1 : Nat) ({ cls := "java/lang/Object", name := "<init>", desc := "()V" } : Jvm.MethodName)) ∈ lw_all := lw_g (lw_at lw_m3 10 rfl) rfl
theorem q916 : (Jvm.Cond.declares ({ cls := "InsuredFlame$Condition", name := "holds", desc := "(LInsuredFlame$Asked;)I" } : Jvm.MethodName)) ∈ lw_tbl := lw_at lw_m4 83 rfl
theorem q917 : (Jvm.Cond.sameMethod "InsuredFlame$Condition" "InsuredFlame$Condition" "holds" "(LInsuredFlame$Asked;)I") ∈ lw_all := lw_g (lw_at lw_m4 84 rfl) rfl
/-! InsuredFlame$Some -/
set_option maxRecDepth 100000
def RX13 : String := "InsuredFlame$Some"
def TX13 : u_T := fun k => match k with
  | 0 => ("InsuredFlame$Some", "part", "LInsuredFlame$Condition;", true)
  | 1 => ("InsuredFlame$Some", "decides", "I", true)
  | _ => ("InsuredFlame$Some", "next", "LInsuredFlame$Some;", false)
def tyX13 : Nat → FieldType := fun k => match k with
  | 0 => .object "InsuredFlame$Condition"
  | 1 => .int
  | _ => .object "InsuredFlame$Some"
abbrev wsX130 : List Cond := u_ws RX13 TX13 3
theorem nmX13 : ∀ a, a < 3 → ∀ b, b < 3 → a ≠ b → (TX13 a).2.1 ≠ (TX13 b).2.1 := by decide +kernel
theorem tyX13_ok : ∀ k, k < 3 → parseFieldDescriptor (TX13 k).2.2.1 = some (tyX13 k) := by decide +kernel
abbrev cX13_init : ByteArray := prog_14_method_1_code
def yX13_init : MethodName := ⟨RX13, "<init>", "(LInsuredFlame$Condition;I)V"⟩
def dkwX13_init_0 : List UInt8 := [42, 183, 0, 1, 42, 43, 181, 0, 7, 42, 28, 181, 0, 13, 177]
abbrev dktX13_init_0 : List UInt8 := dkwX13_init_0 ++ []
theorem dksX13_init_0 : cX13_init.data.toList.drop 0 = dktX13_init_0 := by decide +kernel
theorem dX13_init_0 : decode cX13_init 0 = .ok (.aload_n 0, 1) := dk_42 (dk_at dksX13_init_0 0 rfl rfl)
theorem dX13_init_1 : decode cX13_init 1 = .ok (.invokespecial 1, 3) := dk_183 0 1 (dk_at dksX13_init_0 1 rfl rfl)
theorem dX13_init_4 : decode cX13_init 4 = .ok (.aload_n 0, 1) := dk_42 (dk_at dksX13_init_0 4 rfl rfl)
theorem dX13_init_5 : decode cX13_init 5 = .ok (.aload_n 1, 1) := dk_43 (dk_at dksX13_init_0 5 rfl rfl)
theorem dX13_init_6 : decode cX13_init 6 = .ok (.putfield 7, 3) := dk_181 0 7 (dk_at dksX13_init_0 6 rfl rfl)
theorem dX13_init_9 : decode cX13_init 9 = .ok (.aload_n 0, 1) := dk_42 (dk_at dksX13_init_0 9 rfl rfl)
theorem dX13_init_10 : decode cX13_init 10 = .ok (.iload_n 2, 1) := dk_28 (dk_at dksX13_init_0 10 rfl rfl)
theorem dX13_init_11 : decode cX13_init 11 = .ok (.putfield 13, 3) := dk_181 0 13 (dk_at dksX13_init_0 11 rfl rfl)
theorem dX13_init_14 : decode cX13_init 14 = .ok (.return_, 1) := dk_177 (dk_at dksX13_init_0 14 rfl rfl)
abbrev cX13_holds : ByteArray := prog_14_method_2_code
def yX13_holds : MethodName := ⟨RX13, "holds", "(LInsuredFlame$Asked;)I"⟩
def dkwX13_holds_1 : List UInt8 := [180, 0, 13, 160, 0, 5, 29, 172, 44, 180, 0, 21, 77, 167, 255, 223, 4, 42, 180, 0, 13, 100, 172]
abbrev dktX13_holds_1 : List UInt8 := dkwX13_holds_1 ++ []
def dkwX13_holds_0 : List UInt8 := [42, 77, 44, 198, 0, 35, 44, 180, 0, 7, 43, 182, 0, 17, 62, 29, 5, 159, 0, 11, 29, 42]
abbrev dktX13_holds_0 : List UInt8 := dkwX13_holds_0 ++ dktX13_holds_1
theorem dksX13_holds_0 : cX13_holds.data.toList.drop 0 = dktX13_holds_0 := by decide +kernel
theorem dksX13_holds_1 : cX13_holds.data.toList.drop 22 = dktX13_holds_1 := dk_seg dksX13_holds_0 22 rfl rfl
theorem dX13_holds_0 : decode cX13_holds 0 = .ok (.aload_n 0, 1) := dk_42 (dk_at dksX13_holds_0 0 rfl rfl)
theorem dX13_holds_1 : decode cX13_holds 1 = .ok (.astore_n 2, 1) := dk_77 (dk_at dksX13_holds_0 1 rfl rfl)
theorem dX13_holds_2 : decode cX13_holds 2 = .ok (.aload_n 2, 1) := dk_44 (dk_at dksX13_holds_0 2 rfl rfl)
theorem dX13_holds_3 : decode cX13_holds 3 = .ok (.ifnull 35, 3) := dk_198 0 35 (dk_at dksX13_holds_0 3 rfl rfl)
theorem dX13_holds_6 : decode cX13_holds 6 = .ok (.aload_n 2, 1) := dk_44 (dk_at dksX13_holds_0 6 rfl rfl)
theorem dX13_holds_7 : decode cX13_holds 7 = .ok (.getfield 7, 3) := dk_180 0 7 (dk_at dksX13_holds_0 7 rfl rfl)
theorem dX13_holds_10 : decode cX13_holds 10 = .ok (.aload_n 1, 1) := dk_43 (dk_at dksX13_holds_0 10 rfl rfl)
theorem dX13_holds_11 : decode cX13_holds 11 = .ok (.invokevirtual 17, 3) := dk_182 0 17 (dk_at dksX13_holds_0 11 rfl rfl)
theorem dX13_holds_14 : decode cX13_holds 14 = .ok (.istore_n 3, 1) := dk_62 (dk_at dksX13_holds_0 14 rfl rfl)
theorem dX13_holds_15 : decode cX13_holds 15 = .ok (.iload_n 3, 1) := dk_29 (dk_at dksX13_holds_0 15 rfl rfl)
theorem dX13_holds_16 : decode cX13_holds 16 = .ok (.iconst 2, 1) := dk_5 (dk_at dksX13_holds_0 16 rfl rfl)
theorem dX13_holds_17 : decode cX13_holds 17 = .ok (.if_icmp .eq 11, 3) := dk_159 0 11 (dk_at dksX13_holds_0 17 rfl rfl)
theorem dX13_holds_20 : decode cX13_holds 20 = .ok (.iload_n 3, 1) := dk_29 (dk_at dksX13_holds_0 20 rfl rfl)
theorem dX13_holds_21 : decode cX13_holds 21 = .ok (.aload_n 0, 1) := dk_42 (dk_at dksX13_holds_0 21 rfl rfl)
theorem dX13_holds_22 : decode cX13_holds 22 = .ok (.getfield 13, 3) := dk_180 0 13 (dk_at dksX13_holds_1 0 rfl rfl)
theorem dX13_holds_25 : decode cX13_holds 25 = .ok (.if_icmp .ne 5, 3) := dk_160 0 5 (dk_at dksX13_holds_1 3 rfl rfl)
theorem dX13_holds_28 : decode cX13_holds 28 = .ok (.iload_n 3, 1) := dk_29 (dk_at dksX13_holds_1 6 rfl rfl)
theorem dX13_holds_29 : decode cX13_holds 29 = .ok (.ireturn, 1) := dk_172 (dk_at dksX13_holds_1 7 rfl rfl)
theorem dX13_holds_30 : decode cX13_holds 30 = .ok (.aload_n 2, 1) := dk_44 (dk_at dksX13_holds_1 8 rfl rfl)
theorem dX13_holds_31 : decode cX13_holds 31 = .ok (.getfield 21, 3) := dk_180 0 21 (dk_at dksX13_holds_1 9 rfl rfl)
theorem dX13_holds_34 : decode cX13_holds 34 = .ok (.astore_n 2, 1) := dk_77 (dk_at dksX13_holds_1 12 rfl rfl)
theorem dX13_holds_35 : decode cX13_holds 35 = .ok (.goto (-33), 3) := dk_167 255 223 (dk_at dksX13_holds_1 13 rfl rfl)
theorem dX13_holds_38 : decode cX13_holds 38 = .ok (.iconst 1, 1) := dk_4 (dk_at dksX13_holds_1 16 rfl rfl)
theorem dX13_holds_39 : decode cX13_holds 39 = .ok (.aload_n 0, 1) := dk_42 (dk_at dksX13_holds_1 17 rfl rfl)
theorem dX13_holds_40 : decode cX13_holds 40 = .ok (.getfield 13, 3) := dk_180 0 13 (dk_at dksX13_holds_1 18 rfl rfl)
theorem dX13_holds_43 : decode cX13_holds 43 = .ok (.isub, 1) := dk_100 (dk_at dksX13_holds_1 21 rfl rfl)
theorem dX13_holds_44 : decode cX13_holds 44 = .ok (.ireturn, 1) := dk_172 (dk_at dksX13_holds_1 22 rfl rfl)
theorem q133 : (Jvm.Cond.initialized "InsuredFlame$Some") ∈ lw_all := lw_g (lw_at lw_m1 20 rfl) rfl
theorem q586 : (Jvm.Cond.instantiable "InsuredFlame$Some" (3 : Nat)) ∈ lw_all := lw_g (lw_at lw_m2 233 rfl) rfl
theorem q625 : (Jvm.Cond.instanceMethod ({ cls := "InsuredFlame$Some", name := "<init>", desc := "(LInsuredFlame$Condition;I)V" } : Jvm.MethodName)) ∈ lw_all := lw_g (lw_at lw_m3 32 rfl) rfl
theorem q626 : (Jvm.Cond.code ({ cls := "InsuredFlame$Some", name := "<init>", desc := "(LInsuredFlame$Condition;I)V" } : Jvm.MethodName) prog_14_method_1_code (3 : Nat) (Option.none : Option Jvm.ClassFile.FieldType)) ∈ lw_all := lw_g (lw_at lw_m3 33 rfl) rfl
theorem q627 : (Jvm.Cond.methodLinkNest "InsuredFlame$Some" (1 : Nat) ({ cls := "InsuredFlame$Condition", name := "<init>", desc := "()V" } : Jvm.MethodName) "InsuredFlame") ∈ lw_tbl := lw_at lw_m3 34 rfl
theorem q628 : (Jvm.Cond.fieldLink "InsuredFlame$Some" (7 : Nat) "InsuredFlame$Some" "part" "LInsuredFlame$Condition;") ∈ lw_all := lw_g (lw_at lw_m3 35 rfl) rfl
theorem q629 : (Jvm.Cond.fieldLink "InsuredFlame$Some" (13 : Nat) "InsuredFlame$Some" "decides" "I") ∈ lw_all := lw_g (lw_at lw_m3 36 rfl) rfl
theorem q630 : (Jvm.Cond.fieldLink "InsuredFlame$Some" (21 : Nat) "InsuredFlame$Some" "next" "LInsuredFlame$Some;") ∈ lw_all := lw_g (lw_at lw_m3 37 rfl) rfl
theorem q632 : (Jvm.Cond.laysFinal "InsuredFlame$Some" "InsuredFlame$Some" "part" "LInsuredFlame$Condition;") ∈ lw_all := lw_g (lw_at lw_m3 39 rfl) rfl
theorem q633 : (Jvm.Cond.soleField "InsuredFlame$Some" "part") ∈ lw_all := lw_g (lw_at lw_m3 40 rfl) rfl
theorem q634 : (Jvm.Cond.laysFinal "InsuredFlame$Some" "InsuredFlame$Some" "decides" "I") ∈ lw_all := lw_g (lw_at lw_m3 41 rfl) rfl
theorem q635 : (Jvm.Cond.soleField "InsuredFlame$Some" "decides") ∈ lw_all := lw_g (lw_at lw_m3 42 rfl) rfl
theorem q636 : (Jvm.Cond.lays "InsuredFlame$Some" "InsuredFlame$Some" "next" "LInsuredFlame$Some;") ∈ lw_all := lw_g (lw_at lw_m3 43 rfl) rfl
theorem q637 : (Jvm.Cond.soleField "InsuredFlame$Some" "next") ∈ lw_all := lw_g (lw_at lw_m3 44 rfl) rfl
theorem q638 : (Jvm.Cond.superclass "InsuredFlame$Some" "InsuredFlame$Condition") ∈ lw_all := lw_g (lw_at lw_m3 45 rfl) rfl
theorem q947 : (Jvm.Cond.instanceMethod ({ cls := "InsuredFlame$Some", name := "holds", desc := "(LInsuredFlame$Asked;)I" } : Jvm.MethodName)) ∈ lw_all := lw_g (lw_at lw_m4 114 rfl) rfl
theorem q948 : (Jvm.Cond.code ({ cls := "InsuredFlame$Some", name := "holds", desc := "(LInsuredFlame$Asked;)I" } : Jvm.MethodName) prog_14_method_2_code (4 : Nat) (Option.some Jvm.ClassFile.FieldType.int)) ∈ lw_all := lw_g (lw_at lw_m4 115 rfl) rfl
theorem q949 : (Jvm.Cond.methodLink "InsuredFlame$Some" (17 : Nat) ({ cls := "InsuredFlame$Condition", name := "holds", desc := "(LInsuredFlame$Asked;)I" } : Jvm.MethodName)) ∈ lw_all := lw_g (lw_at lw_m4 116 rfl) rfl
theorem q950 : (Jvm.Cond.selects "InsuredFlame$Some" ({ cls := "InsuredFlame$Condition", name := "holds", desc := "(LInsuredFlame$Asked;)I" } : Jvm.MethodName) ({ cls := "InsuredFlame$Some", name := "holds", desc := "(LInsuredFlame$Asked;)I" } : Jvm.MethodName)) ∈ lw_all := lw_g (lw_at lw_m4 117 rfl) rfl
theorem q1744 : (Jvm.Cond.castable "InsuredFlame$Some" "InsuredFlame$Condition") ∈ lw_tbl := lw_at lw_m7 191 rfl
theorem in_X13 : ∀ w ∈ wsX130, w ∈ lw_all := lw_in wsX130 [632, 634, 636] (by decide +kernel) (by decide +kernel)
/-! InsuredFlame$Not -/
set_option maxRecDepth 100000
def RX14 : String := "InsuredFlame$Not"
def TX14 : u_T := fun k => match k with
  | _ => ("InsuredFlame$Not", "x", "LInsuredFlame$Condition;", true)
def tyX14 : Nat → FieldType := fun k => match k with
  | _ => .object "InsuredFlame$Condition"
abbrev wsX140 : List Cond := u_ws RX14 TX14 1
theorem nmX14 : ∀ a, a < 1 → ∀ b, b < 1 → a ≠ b → (TX14 a).2.1 ≠ (TX14 b).2.1 := by decide +kernel
theorem tyX14_ok : ∀ k, k < 1 → parseFieldDescriptor (TX14 k).2.2.1 = some (tyX14 k) := by decide +kernel
abbrev cX14_init : ByteArray := prog_9_method_1_code
def yX14_init : MethodName := ⟨RX14, "<init>", "(LInsuredFlame$Condition;)V"⟩
def dkwX14_init_0 : List UInt8 := [42, 183, 0, 1, 42, 43, 181, 0, 7, 177]
abbrev dktX14_init_0 : List UInt8 := dkwX14_init_0 ++ []
theorem dksX14_init_0 : cX14_init.data.toList.drop 0 = dktX14_init_0 := by decide +kernel
theorem dX14_init_0 : decode cX14_init 0 = .ok (.aload_n 0, 1) := dk_42 (dk_at dksX14_init_0 0 rfl rfl)
theorem dX14_init_1 : decode cX14_init 1 = .ok (.invokespecial 1, 3) := dk_183 0 1 (dk_at dksX14_init_0 1 rfl rfl)
theorem dX14_init_4 : decode cX14_init 4 = .ok (.aload_n 0, 1) := dk_42 (dk_at dksX14_init_0 4 rfl rfl)
theorem dX14_init_5 : decode cX14_init 5 = .ok (.aload_n 1, 1) := dk_43 (dk_at dksX14_init_0 5 rfl rfl)
theorem dX14_init_6 : decode cX14_init 6 = .ok (.putfield 7, 3) := dk_181 0 7 (dk_at dksX14_init_0 6 rfl rfl)
theorem dX14_init_9 : decode cX14_init 9 = .ok (.return_, 1) := dk_177 (dk_at dksX14_init_0 9 rfl rfl)
abbrev cX14_holds : ByteArray := prog_9_method_2_code
def yX14_holds : MethodName := ⟨RX14, "holds", "(LInsuredFlame$Asked;)I"⟩
def dkwX14_holds_0 : List UInt8 := [42, 180, 0, 7, 43, 182, 0, 13, 61, 28, 5, 160, 0, 7, 5, 167, 0, 6, 4, 28, 100, 172]
abbrev dktX14_holds_0 : List UInt8 := dkwX14_holds_0 ++ []
theorem dksX14_holds_0 : cX14_holds.data.toList.drop 0 = dktX14_holds_0 := by decide +kernel
theorem dX14_holds_0 : decode cX14_holds 0 = .ok (.aload_n 0, 1) := dk_42 (dk_at dksX14_holds_0 0 rfl rfl)
theorem dX14_holds_1 : decode cX14_holds 1 = .ok (.getfield 7, 3) := dk_180 0 7 (dk_at dksX14_holds_0 1 rfl rfl)
theorem dX14_holds_4 : decode cX14_holds 4 = .ok (.aload_n 1, 1) := dk_43 (dk_at dksX14_holds_0 4 rfl rfl)
theorem dX14_holds_5 : decode cX14_holds 5 = .ok (.invokevirtual 13, 3) := dk_182 0 13 (dk_at dksX14_holds_0 5 rfl rfl)
theorem dX14_holds_8 : decode cX14_holds 8 = .ok (.istore_n 2, 1) := dk_61 (dk_at dksX14_holds_0 8 rfl rfl)
theorem dX14_holds_9 : decode cX14_holds 9 = .ok (.iload_n 2, 1) := dk_28 (dk_at dksX14_holds_0 9 rfl rfl)
theorem dX14_holds_10 : decode cX14_holds 10 = .ok (.iconst 2, 1) := dk_5 (dk_at dksX14_holds_0 10 rfl rfl)
theorem dX14_holds_11 : decode cX14_holds 11 = .ok (.if_icmp .ne 7, 3) := dk_160 0 7 (dk_at dksX14_holds_0 11 rfl rfl)
theorem dX14_holds_14 : decode cX14_holds 14 = .ok (.iconst 2, 1) := dk_5 (dk_at dksX14_holds_0 14 rfl rfl)
theorem dX14_holds_15 : decode cX14_holds 15 = .ok (.goto 6, 3) := dk_167 0 6 (dk_at dksX14_holds_0 15 rfl rfl)
theorem dX14_holds_18 : decode cX14_holds 18 = .ok (.iconst 1, 1) := dk_4 (dk_at dksX14_holds_0 18 rfl rfl)
theorem dX14_holds_19 : decode cX14_holds 19 = .ok (.iload_n 2, 1) := dk_28 (dk_at dksX14_holds_0 19 rfl rfl)
theorem dX14_holds_20 : decode cX14_holds 20 = .ok (.isub, 1) := dk_100 (dk_at dksX14_holds_0 20 rfl rfl)
theorem dX14_holds_21 : decode cX14_holds 21 = .ok (.ireturn, 1) := dk_172 (dk_at dksX14_holds_0 21 rfl rfl)
theorem q134 : (Jvm.Cond.initialized "InsuredFlame$Not") ∈ lw_all := lw_g (lw_at lw_m1 21 rfl) rfl
theorem q596 : (Jvm.Cond.instantiable "InsuredFlame$Not" (1 : Nat)) ∈ lw_all := lw_g (lw_at lw_m3 3 rfl) rfl
theorem q598 : (Jvm.Cond.instanceMethod ({ cls := "InsuredFlame$Not", name := "<init>", desc := "(LInsuredFlame$Condition;)V" } : Jvm.MethodName)) ∈ lw_all := lw_g (lw_at lw_m3 5 rfl) rfl
theorem q599 : (Jvm.Cond.code ({ cls := "InsuredFlame$Not", name := "<init>", desc := "(LInsuredFlame$Condition;)V" } : Jvm.MethodName) prog_9_method_1_code (2 : Nat) (Option.none : Option Jvm.ClassFile.FieldType)) ∈ lw_all := lw_g (lw_at lw_m3 6 rfl) rfl
theorem q600 : (Jvm.Cond.methodLinkNest "InsuredFlame$Not" (1 : Nat) ({ cls := "InsuredFlame$Condition", name := "<init>", desc := "()V" } : Jvm.MethodName) "InsuredFlame") ∈ lw_tbl := lw_at lw_m3 7 rfl
theorem q604 : (Jvm.Cond.fieldLink "InsuredFlame$Not" (7 : Nat) "InsuredFlame$Not" "x" "LInsuredFlame$Condition;") ∈ lw_all := lw_g (lw_at lw_m3 11 rfl) rfl
theorem q605 : (Jvm.Cond.laysFinal "InsuredFlame$Not" "InsuredFlame$Not" "x" "LInsuredFlame$Condition;") ∈ lw_all := lw_g (lw_at lw_m3 12 rfl) rfl
theorem q606 : (Jvm.Cond.soleField "InsuredFlame$Not" "x") ∈ lw_all := lw_g (lw_at lw_m3 13 rfl) rfl
theorem q607 : (Jvm.Cond.superclass "InsuredFlame$Not" "InsuredFlame$Condition") ∈ lw_all := lw_g (lw_at lw_m3 14 rfl) rfl
theorem q943 : (Jvm.Cond.selects "InsuredFlame$Not" ({ cls := "InsuredFlame$Condition", name := "holds", desc := "(LInsuredFlame$Asked;)I" } : Jvm.MethodName) ({ cls := "InsuredFlame$Not", name := "holds", desc := "(LInsuredFlame$Asked;)I" } : Jvm.MethodName)) ∈ lw_all := lw_g (lw_at lw_m4 110 rfl) rfl
theorem q944 : (Jvm.Cond.instanceMethod ({ cls := "InsuredFlame$Not", name := "holds", desc := "(LInsuredFlame$Asked;)I" } : Jvm.MethodName)) ∈ lw_all := lw_g (lw_at lw_m4 111 rfl) rfl
theorem q945 : (Jvm.Cond.code ({ cls := "InsuredFlame$Not", name := "holds", desc := "(LInsuredFlame$Asked;)I" } : Jvm.MethodName) prog_9_method_2_code (3 : Nat) (Option.some Jvm.ClassFile.FieldType.int)) ∈ lw_all := lw_g (lw_at lw_m4 112 rfl) rfl
theorem q946 : (Jvm.Cond.methodLink "InsuredFlame$Not" (13 : Nat) ({ cls := "InsuredFlame$Condition", name := "holds", desc := "(LInsuredFlame$Asked;)I" } : Jvm.MethodName)) ∈ lw_all := lw_g (lw_at lw_m4 113 rfl) rfl
theorem q1745 : (Jvm.Cond.castable "InsuredFlame$Not" "InsuredFlame$Condition") ∈ lw_tbl := lw_at lw_m7 192 rfl
theorem in_X14 : ∀ w ∈ wsX140, w ∈ lw_all := lw_in wsX140 [605] (by decide +kernel) (by decide +kernel)
/-! InsuredFlame$Compared -/
set_option maxRecDepth 100000
def RX15 : String := "InsuredFlame$Compared"
def TX15 : u_T := fun k => match k with
  | 0 => ("InsuredFlame$Compared", "x", "LInsuredFlame$Sum;", true)
  | 1 => ("InsuredFlame$Compared", "y", "LInsuredFlame$Sum;", true)
  | _ => ("InsuredFlame$Compared", "sign", "I", true)
def tyX15 : Nat → FieldType := fun k => match k with
  | 0 => .object "InsuredFlame$Sum"
  | 1 => .object "InsuredFlame$Sum"
  | _ => .int
abbrev wsX150 : List Cond := u_ws RX15 TX15 3
theorem nmX15 : ∀ a, a < 3 → ∀ b, b < 3 → a ≠ b → (TX15 a).2.1 ≠ (TX15 b).2.1 := by decide +kernel
theorem tyX15_ok : ∀ k, k < 3 → parseFieldDescriptor (TX15 k).2.2.1 = some (tyX15 k) := by decide +kernel
abbrev cX15_init : ByteArray := prog_4_method_1_code
def yX15_init : MethodName := ⟨RX15, "<init>", "(LInsuredFlame$Sum;ILInsuredFlame$Sum;)V"⟩
def dkwX15_init_0 : List UInt8 := [42, 183, 0, 1, 42, 43, 181, 0, 7, 42, 28, 181, 0, 13, 42, 45, 181, 0, 17, 177]
abbrev dktX15_init_0 : List UInt8 := dkwX15_init_0 ++ []
theorem dksX15_init_0 : cX15_init.data.toList.drop 0 = dktX15_init_0 := by decide +kernel
theorem dX15_init_0 : decode cX15_init 0 = .ok (.aload_n 0, 1) := dk_42 (dk_at dksX15_init_0 0 rfl rfl)
theorem dX15_init_1 : decode cX15_init 1 = .ok (.invokespecial 1, 3) := dk_183 0 1 (dk_at dksX15_init_0 1 rfl rfl)
theorem dX15_init_4 : decode cX15_init 4 = .ok (.aload_n 0, 1) := dk_42 (dk_at dksX15_init_0 4 rfl rfl)
theorem dX15_init_5 : decode cX15_init 5 = .ok (.aload_n 1, 1) := dk_43 (dk_at dksX15_init_0 5 rfl rfl)
theorem dX15_init_6 : decode cX15_init 6 = .ok (.putfield 7, 3) := dk_181 0 7 (dk_at dksX15_init_0 6 rfl rfl)
theorem dX15_init_9 : decode cX15_init 9 = .ok (.aload_n 0, 1) := dk_42 (dk_at dksX15_init_0 9 rfl rfl)
theorem dX15_init_10 : decode cX15_init 10 = .ok (.iload_n 2, 1) := dk_28 (dk_at dksX15_init_0 10 rfl rfl)
theorem dX15_init_11 : decode cX15_init 11 = .ok (.putfield 13, 3) := dk_181 0 13 (dk_at dksX15_init_0 11 rfl rfl)
theorem dX15_init_14 : decode cX15_init 14 = .ok (.aload_n 0, 1) := dk_42 (dk_at dksX15_init_0 14 rfl rfl)
theorem dX15_init_15 : decode cX15_init 15 = .ok (.aload_n 3, 1) := dk_45 (dk_at dksX15_init_0 15 rfl rfl)
theorem dX15_init_16 : decode cX15_init 16 = .ok (.putfield 17, 3) := dk_181 0 17 (dk_at dksX15_init_0 16 rfl rfl)
theorem dX15_init_19 : decode cX15_init 19 = .ok (.return_, 1) := dk_177 (dk_at dksX15_init_0 19 rfl rfl)
abbrev cX15_holds : ByteArray := prog_4_method_2_code
def yX15_holds : MethodName := ⟨RX15, "holds", "(LInsuredFlame$Asked;)I"⟩
def dkwX15_holds_4 : List UInt8 := [153, 0, 7, 4, 167, 0, 4, 3, 172]
abbrev dktX15_holds_4 : List UInt8 := dkwX15_holds_4 ++ []
def dkwX15_holds_3 : List UInt8 := [160, 0, 7, 4, 167, 0, 4, 3, 54, 4, 43, 180, 0, 20, 153, 0, 7, 5, 167, 0, 13, 21, 4]
abbrev dktX15_holds_3 : List UInt8 := dkwX15_holds_3 ++ dktX15_holds_4
def dkwX15_holds_2 : List UInt8 := [180, 0, 13, 16, 62, 160, 0, 16, 28, 29, 164, 0, 7, 4, 167, 0, 17, 3, 167, 0, 13, 28, 29]
abbrev dktX15_holds_2 : List UInt8 := dkwX15_holds_2 ++ dktX15_holds_3
def dkwX15_holds_1 : List UInt8 := [180, 0, 13, 16, 60, 160, 0, 16, 28, 29, 162, 0, 7, 4, 167, 0, 39, 3, 167, 0, 35, 42]
abbrev dktX15_holds_1 : List UInt8 := dkwX15_holds_1 ++ dktX15_holds_2
def dkwX15_holds_0 : List UInt8 := [43, 3, 181, 0, 20, 42, 180, 0, 7, 43, 182, 0, 26, 61, 42, 180, 0, 17, 43, 182, 0, 26, 62, 42]
abbrev dktX15_holds_0 : List UInt8 := dkwX15_holds_0 ++ dktX15_holds_1
theorem dksX15_holds_0 : cX15_holds.data.toList.drop 0 = dktX15_holds_0 := by decide +kernel
theorem dksX15_holds_1 : cX15_holds.data.toList.drop 24 = dktX15_holds_1 := dk_seg dksX15_holds_0 24 rfl rfl
theorem dksX15_holds_2 : cX15_holds.data.toList.drop 46 = dktX15_holds_2 := dk_seg dksX15_holds_1 22 rfl rfl
theorem dksX15_holds_3 : cX15_holds.data.toList.drop 69 = dktX15_holds_3 := dk_seg dksX15_holds_2 23 rfl rfl
theorem dksX15_holds_4 : cX15_holds.data.toList.drop 92 = dktX15_holds_4 := dk_seg dksX15_holds_3 23 rfl rfl
theorem dX15_holds_0 : decode cX15_holds 0 = .ok (.aload_n 1, 1) := dk_43 (dk_at dksX15_holds_0 0 rfl rfl)
theorem dX15_holds_1 : decode cX15_holds 1 = .ok (.iconst 0, 1) := dk_3 (dk_at dksX15_holds_0 1 rfl rfl)
theorem dX15_holds_2 : decode cX15_holds 2 = .ok (.putfield 20, 3) := dk_181 0 20 (dk_at dksX15_holds_0 2 rfl rfl)
theorem dX15_holds_5 : decode cX15_holds 5 = .ok (.aload_n 0, 1) := dk_42 (dk_at dksX15_holds_0 5 rfl rfl)
theorem dX15_holds_6 : decode cX15_holds 6 = .ok (.getfield 7, 3) := dk_180 0 7 (dk_at dksX15_holds_0 6 rfl rfl)
theorem dX15_holds_9 : decode cX15_holds 9 = .ok (.aload_n 1, 1) := dk_43 (dk_at dksX15_holds_0 9 rfl rfl)
theorem dX15_holds_10 : decode cX15_holds 10 = .ok (.invokevirtual 26, 3) := dk_182 0 26 (dk_at dksX15_holds_0 10 rfl rfl)
theorem dX15_holds_13 : decode cX15_holds 13 = .ok (.istore_n 2, 1) := dk_61 (dk_at dksX15_holds_0 13 rfl rfl)
theorem dX15_holds_14 : decode cX15_holds 14 = .ok (.aload_n 0, 1) := dk_42 (dk_at dksX15_holds_0 14 rfl rfl)
theorem dX15_holds_15 : decode cX15_holds 15 = .ok (.getfield 17, 3) := dk_180 0 17 (dk_at dksX15_holds_0 15 rfl rfl)
theorem dX15_holds_18 : decode cX15_holds 18 = .ok (.aload_n 1, 1) := dk_43 (dk_at dksX15_holds_0 18 rfl rfl)
theorem dX15_holds_19 : decode cX15_holds 19 = .ok (.invokevirtual 26, 3) := dk_182 0 26 (dk_at dksX15_holds_0 19 rfl rfl)
theorem dX15_holds_22 : decode cX15_holds 22 = .ok (.istore_n 3, 1) := dk_62 (dk_at dksX15_holds_0 22 rfl rfl)
theorem dX15_holds_23 : decode cX15_holds 23 = .ok (.aload_n 0, 1) := dk_42 (dk_at dksX15_holds_0 23 rfl rfl)
theorem dX15_holds_24 : decode cX15_holds 24 = .ok (.getfield 13, 3) := dk_180 0 13 (dk_at dksX15_holds_1 0 rfl rfl)
theorem dX15_holds_27 : decode cX15_holds 27 = .ok (.bipush 60, 2) := dk_16 60 (dk_at dksX15_holds_1 3 rfl rfl)
theorem dX15_holds_29 : decode cX15_holds 29 = .ok (.if_icmp .ne 16, 3) := dk_160 0 16 (dk_at dksX15_holds_1 5 rfl rfl)
theorem dX15_holds_32 : decode cX15_holds 32 = .ok (.iload_n 2, 1) := dk_28 (dk_at dksX15_holds_1 8 rfl rfl)
theorem dX15_holds_33 : decode cX15_holds 33 = .ok (.iload_n 3, 1) := dk_29 (dk_at dksX15_holds_1 9 rfl rfl)
theorem dX15_holds_34 : decode cX15_holds 34 = .ok (.if_icmp .ge 7, 3) := dk_162 0 7 (dk_at dksX15_holds_1 10 rfl rfl)
theorem dX15_holds_37 : decode cX15_holds 37 = .ok (.iconst 1, 1) := dk_4 (dk_at dksX15_holds_1 13 rfl rfl)
theorem dX15_holds_38 : decode cX15_holds 38 = .ok (.goto 39, 3) := dk_167 0 39 (dk_at dksX15_holds_1 14 rfl rfl)
theorem dX15_holds_41 : decode cX15_holds 41 = .ok (.iconst 0, 1) := dk_3 (dk_at dksX15_holds_1 17 rfl rfl)
theorem dX15_holds_42 : decode cX15_holds 42 = .ok (.goto 35, 3) := dk_167 0 35 (dk_at dksX15_holds_1 18 rfl rfl)
theorem dX15_holds_45 : decode cX15_holds 45 = .ok (.aload_n 0, 1) := dk_42 (dk_at dksX15_holds_1 21 rfl rfl)
theorem dX15_holds_46 : decode cX15_holds 46 = .ok (.getfield 13, 3) := dk_180 0 13 (dk_at dksX15_holds_2 0 rfl rfl)
theorem dX15_holds_49 : decode cX15_holds 49 = .ok (.bipush 62, 2) := dk_16 62 (dk_at dksX15_holds_2 3 rfl rfl)
theorem dX15_holds_51 : decode cX15_holds 51 = .ok (.if_icmp .ne 16, 3) := dk_160 0 16 (dk_at dksX15_holds_2 5 rfl rfl)
theorem dX15_holds_54 : decode cX15_holds 54 = .ok (.iload_n 2, 1) := dk_28 (dk_at dksX15_holds_2 8 rfl rfl)
theorem dX15_holds_55 : decode cX15_holds 55 = .ok (.iload_n 3, 1) := dk_29 (dk_at dksX15_holds_2 9 rfl rfl)
theorem dX15_holds_56 : decode cX15_holds 56 = .ok (.if_icmp .le 7, 3) := dk_164 0 7 (dk_at dksX15_holds_2 10 rfl rfl)
theorem dX15_holds_59 : decode cX15_holds 59 = .ok (.iconst 1, 1) := dk_4 (dk_at dksX15_holds_2 13 rfl rfl)
theorem dX15_holds_60 : decode cX15_holds 60 = .ok (.goto 17, 3) := dk_167 0 17 (dk_at dksX15_holds_2 14 rfl rfl)
theorem dX15_holds_63 : decode cX15_holds 63 = .ok (.iconst 0, 1) := dk_3 (dk_at dksX15_holds_2 17 rfl rfl)
theorem dX15_holds_64 : decode cX15_holds 64 = .ok (.goto 13, 3) := dk_167 0 13 (dk_at dksX15_holds_2 18 rfl rfl)
theorem dX15_holds_67 : decode cX15_holds 67 = .ok (.iload_n 2, 1) := dk_28 (dk_at dksX15_holds_2 21 rfl rfl)
theorem dX15_holds_68 : decode cX15_holds 68 = .ok (.iload_n 3, 1) := dk_29 (dk_at dksX15_holds_2 22 rfl rfl)
theorem dX15_holds_69 : decode cX15_holds 69 = .ok (.if_icmp .ne 7, 3) := dk_160 0 7 (dk_at dksX15_holds_3 0 rfl rfl)
theorem dX15_holds_72 : decode cX15_holds 72 = .ok (.iconst 1, 1) := dk_4 (dk_at dksX15_holds_3 3 rfl rfl)
theorem dX15_holds_73 : decode cX15_holds 73 = .ok (.goto 4, 3) := dk_167 0 4 (dk_at dksX15_holds_3 4 rfl rfl)
theorem dX15_holds_76 : decode cX15_holds 76 = .ok (.iconst 0, 1) := dk_3 (dk_at dksX15_holds_3 7 rfl rfl)
theorem dX15_holds_77 : decode cX15_holds 77 = .ok (.istore 4, 2) := dk_54 4 (dk_at dksX15_holds_3 8 rfl rfl)
theorem dX15_holds_79 : decode cX15_holds 79 = .ok (.aload_n 1, 1) := dk_43 (dk_at dksX15_holds_3 10 rfl rfl)
theorem dX15_holds_80 : decode cX15_holds 80 = .ok (.getfield 20, 3) := dk_180 0 20 (dk_at dksX15_holds_3 11 rfl rfl)
theorem dX15_holds_83 : decode cX15_holds 83 = .ok (.ifCond .eq 7, 3) := dk_153 0 7 (dk_at dksX15_holds_3 14 rfl rfl)
theorem dX15_holds_86 : decode cX15_holds 86 = .ok (.iconst 2, 1) := dk_5 (dk_at dksX15_holds_3 17 rfl rfl)
theorem dX15_holds_87 : decode cX15_holds 87 = .ok (.goto 13, 3) := dk_167 0 13 (dk_at dksX15_holds_3 18 rfl rfl)
theorem dX15_holds_90 : decode cX15_holds 90 = .ok (.iload 4, 2) := dk_21 4 (dk_at dksX15_holds_3 21 rfl rfl)
theorem dX15_holds_92 : decode cX15_holds 92 = .ok (.ifCond .eq 7, 3) := dk_153 0 7 (dk_at dksX15_holds_4 0 rfl rfl)
theorem dX15_holds_95 : decode cX15_holds 95 = .ok (.iconst 1, 1) := dk_4 (dk_at dksX15_holds_4 3 rfl rfl)
theorem dX15_holds_96 : decode cX15_holds 96 = .ok (.goto 4, 3) := dk_167 0 4 (dk_at dksX15_holds_4 4 rfl rfl)
theorem dX15_holds_99 : decode cX15_holds 99 = .ok (.iconst 0, 1) := dk_3 (dk_at dksX15_holds_4 7 rfl rfl)
theorem dX15_holds_100 : decode cX15_holds 100 = .ok (.ireturn, 1) := dk_172 (dk_at dksX15_holds_4 8 rfl rfl)
theorem q135 : (Jvm.Cond.initialized "InsuredFlame$Compared") ∈ lw_all := lw_g (lw_at lw_m1 22 rfl) rfl
theorem q166 : (Jvm.Cond.fieldLinkNest "InsuredFlame$Compared" (20 : Nat) "InsuredFlame$Asked" "isRefused" "Z" "InsuredFlame") ∈ lw_tbl := lw_at lw_m1 53 rfl
theorem q609 : (Jvm.Cond.instantiable "InsuredFlame$Compared" (3 : Nat)) ∈ lw_all := lw_g (lw_at lw_m3 16 rfl) rfl
theorem q611 : (Jvm.Cond.instanceMethod ({ cls := "InsuredFlame$Compared", name := "<init>", desc := "(LInsuredFlame$Sum;ILInsuredFlame$Sum;)V" } : Jvm.MethodName)) ∈ lw_all := lw_g (lw_at lw_m3 18 rfl) rfl
theorem q612 : (Jvm.Cond.code ({ cls := "InsuredFlame$Compared", name := "<init>", desc := "(LInsuredFlame$Sum;ILInsuredFlame$Sum;)V" } : Jvm.MethodName) prog_4_method_1_code (4 : Nat) (Option.none : Option Jvm.ClassFile.FieldType)) ∈ lw_all := lw_g (lw_at lw_m3 19 rfl) rfl
theorem q613 : (Jvm.Cond.methodLinkNest "InsuredFlame$Compared" (1 : Nat) ({ cls := "InsuredFlame$Condition", name := "<init>", desc := "()V" } : Jvm.MethodName) "InsuredFlame") ∈ lw_tbl := lw_at lw_m3 20 rfl
theorem q614 : (Jvm.Cond.fieldLink "InsuredFlame$Compared" (7 : Nat) "InsuredFlame$Compared" "x" "LInsuredFlame$Sum;") ∈ lw_all := lw_g (lw_at lw_m3 21 rfl) rfl
theorem q615 : (Jvm.Cond.fieldLink "InsuredFlame$Compared" (17 : Nat) "InsuredFlame$Compared" "y" "LInsuredFlame$Sum;") ∈ lw_all := lw_g (lw_at lw_m3 22 rfl) rfl
theorem q616 : (Jvm.Cond.fieldLink "InsuredFlame$Compared" (13 : Nat) "InsuredFlame$Compared" "sign" "I") ∈ lw_all := lw_g (lw_at lw_m3 23 rfl) rfl
theorem q617 : (Jvm.Cond.laysFinal "InsuredFlame$Compared" "InsuredFlame$Compared" "x" "LInsuredFlame$Sum;") ∈ lw_all := lw_g (lw_at lw_m3 24 rfl) rfl
theorem q618 : (Jvm.Cond.soleField "InsuredFlame$Compared" "x") ∈ lw_all := lw_g (lw_at lw_m3 25 rfl) rfl
theorem q619 : (Jvm.Cond.laysFinal "InsuredFlame$Compared" "InsuredFlame$Compared" "y" "LInsuredFlame$Sum;") ∈ lw_all := lw_g (lw_at lw_m3 26 rfl) rfl
theorem q620 : (Jvm.Cond.soleField "InsuredFlame$Compared" "y") ∈ lw_all := lw_g (lw_at lw_m3 27 rfl) rfl
theorem q621 : (Jvm.Cond.laysFinal "InsuredFlame$Compared" "InsuredFlame$Compared" "sign" "I") ∈ lw_all := lw_g (lw_at lw_m3 28 rfl) rfl
theorem q622 : (Jvm.Cond.soleField "InsuredFlame$Compared" "sign") ∈ lw_all := lw_g (lw_at lw_m3 29 rfl) rfl
theorem q623 : (Jvm.Cond.superclass "InsuredFlame$Compared" "InsuredFlame$Condition") ∈ lw_all := lw_g (lw_at lw_m3 30 rfl) rfl
theorem q918 : (Jvm.Cond.selects "InsuredFlame$Compared" ({ cls := "InsuredFlame$Condition", name := "holds", desc := "(LInsuredFlame$Asked;)I" } : Jvm.MethodName) ({ cls := "InsuredFlame$Compared", name := "holds", desc := "(LInsuredFlame$Asked;)I" } : Jvm.MethodName)) ∈ lw_all := lw_g (lw_at lw_m4 85 rfl) rfl
theorem q919 : (Jvm.Cond.instanceMethod ({ cls := "InsuredFlame$Compared", name := "holds", desc := "(LInsuredFlame$Asked;)I" } : Jvm.MethodName)) ∈ lw_all := lw_g (lw_at lw_m4 86 rfl) rfl
theorem q920 : (Jvm.Cond.code ({ cls := "InsuredFlame$Compared", name := "holds", desc := "(LInsuredFlame$Asked;)I" } : Jvm.MethodName) prog_4_method_2_code (5 : Nat) (Option.some Jvm.ClassFile.FieldType.int)) ∈ lw_all := lw_g (lw_at lw_m4 87 rfl) rfl
theorem q921 : (Jvm.Cond.methodLink "InsuredFlame$Compared" (26 : Nat) ({ cls := "InsuredFlame$Sum", name := "worth", desc := "(LInsuredFlame$Asked;)I" } : Jvm.MethodName)) ∈ lw_all := lw_g (lw_at lw_m4 88 rfl) rfl
theorem q1746 : (Jvm.Cond.castable "InsuredFlame$Compared" "InsuredFlame$Condition") ∈ lw_tbl := lw_at lw_m7 193 rfl
theorem in_X15 : ∀ w ∈ wsX150, w ∈ lw_all := lw_in wsX150 [617, 619, 621] (by decide +kernel) (by decide +kernel)
