/-! THE TWIN: where its object and arrays stand (names 214..244), what its class's entries link to -/
def twKs : List (Nat × (Nat ⊕ (Nat × Nat))) := [(214, .inl 5), (215, .inr (0, 315)), (216, .inr (0, 315)), (217, .inr (0, 315)), (218, .inr (0, 96)), (219, .inr (0, 96)), (220, .inr (1, 260)), (221, .inr (0, 260)), (222, .inr (0, 260)), (223, .inr (0, 16)), (224, .inr (0, 16)), (225, .inr (0, 16)), (226, .inr (0, 16)), (227, .inr (0, 260)), (228, .inr (0, 16)), (229, .inr (0, 16)), (230, .inr (0, 16)), (231, .inr (0, 16)), (232, .inr (0, 260)), (233, .inr (0, 9)), (234, .inr (0, 96)), (235, .inr (2, 96)), (236, .inr (0, 96)), (237, .inr (0, 192)), (238, .inr (0, 96)), (239, .inr (0, 96)), (240, .inr (0, 192)), (241, .inr (0, 192)), (242, .inr (0, 96)), (243, .inr (0, 96)), (244, .inr (0, 10))]
def twRs : List (Nat × Nat) := [(0, 215), (1, 216), (2, 217), (3, 218), (4, 219), (5, 220), (16, 221), (17, 222), (18, 223), (19, 224), (20, 225), (21, 226), (22, 227), (23, 228), (24, 229), (25, 230), (26, 231), (27, 232), (28, 233), (29, 234), (33, 235), (35, 236), (36, 237), (37, 238), (38, 239), (39, 240), (41, 241), (42, 242), (43, 243), (44, 244)]
def TW (E : eT) : Prop := 245 ≤ E.2.2.1 ∧ (∀ q ∈ twKs, E.2.2.2.1 q.1 = q.2) ∧ ∀ q ∈ twRs, E.2.2.2.2 214 q.1 = some q.2
section TWS
variable {E : eT}
theorem tk_214 (hT : TW E) : E.2.2.2.1 214 = .inl 5 := hT.2.1 (214, .inl 5) (List.mem_of_getElem? (i := 0) rfl)
theorem tb_214 (hT : TW E) : 16 ≤ 214 ∧ 214 < E.2.2.1 := ⟨by decide, Nat.lt_of_lt_of_le (by decide) hT.1⟩
theorem tk_215 (hT : TW E) : E.2.2.2.1 215 = .inr (0, 315) := hT.2.1 (215, .inr (0, 315)) (List.mem_of_getElem? (i := 1) rfl)
theorem tb_215 (hT : TW E) : 16 ≤ 215 ∧ 215 < E.2.2.1 := ⟨by decide, Nat.lt_of_lt_of_le (by decide) hT.1⟩
theorem tk_216 (hT : TW E) : E.2.2.2.1 216 = .inr (0, 315) := hT.2.1 (216, .inr (0, 315)) (List.mem_of_getElem? (i := 2) rfl)
theorem tb_216 (hT : TW E) : 16 ≤ 216 ∧ 216 < E.2.2.1 := ⟨by decide, Nat.lt_of_lt_of_le (by decide) hT.1⟩
theorem tk_217 (hT : TW E) : E.2.2.2.1 217 = .inr (0, 315) := hT.2.1 (217, .inr (0, 315)) (List.mem_of_getElem? (i := 3) rfl)
theorem tb_217 (hT : TW E) : 16 ≤ 217 ∧ 217 < E.2.2.1 := ⟨by decide, Nat.lt_of_lt_of_le (by decide) hT.1⟩
theorem tk_218 (hT : TW E) : E.2.2.2.1 218 = .inr (0, 96) := hT.2.1 (218, .inr (0, 96)) (List.mem_of_getElem? (i := 4) rfl)
theorem tb_218 (hT : TW E) : 16 ≤ 218 ∧ 218 < E.2.2.1 := ⟨by decide, Nat.lt_of_lt_of_le (by decide) hT.1⟩
theorem tk_219 (hT : TW E) : E.2.2.2.1 219 = .inr (0, 96) := hT.2.1 (219, .inr (0, 96)) (List.mem_of_getElem? (i := 5) rfl)
theorem tb_219 (hT : TW E) : 16 ≤ 219 ∧ 219 < E.2.2.1 := ⟨by decide, Nat.lt_of_lt_of_le (by decide) hT.1⟩
theorem tk_220 (hT : TW E) : E.2.2.2.1 220 = .inr (1, 260) := hT.2.1 (220, .inr (1, 260)) (List.mem_of_getElem? (i := 6) rfl)
theorem tb_220 (hT : TW E) : 16 ≤ 220 ∧ 220 < E.2.2.1 := ⟨by decide, Nat.lt_of_lt_of_le (by decide) hT.1⟩
theorem tk_221 (hT : TW E) : E.2.2.2.1 221 = .inr (0, 260) := hT.2.1 (221, .inr (0, 260)) (List.mem_of_getElem? (i := 7) rfl)
theorem tb_221 (hT : TW E) : 16 ≤ 221 ∧ 221 < E.2.2.1 := ⟨by decide, Nat.lt_of_lt_of_le (by decide) hT.1⟩
theorem tk_222 (hT : TW E) : E.2.2.2.1 222 = .inr (0, 260) := hT.2.1 (222, .inr (0, 260)) (List.mem_of_getElem? (i := 8) rfl)
theorem tb_222 (hT : TW E) : 16 ≤ 222 ∧ 222 < E.2.2.1 := ⟨by decide, Nat.lt_of_lt_of_le (by decide) hT.1⟩
theorem tk_223 (hT : TW E) : E.2.2.2.1 223 = .inr (0, 16) := hT.2.1 (223, .inr (0, 16)) (List.mem_of_getElem? (i := 9) rfl)
theorem tb_223 (hT : TW E) : 16 ≤ 223 ∧ 223 < E.2.2.1 := ⟨by decide, Nat.lt_of_lt_of_le (by decide) hT.1⟩
theorem tk_224 (hT : TW E) : E.2.2.2.1 224 = .inr (0, 16) := hT.2.1 (224, .inr (0, 16)) (List.mem_of_getElem? (i := 10) rfl)
theorem tb_224 (hT : TW E) : 16 ≤ 224 ∧ 224 < E.2.2.1 := ⟨by decide, Nat.lt_of_lt_of_le (by decide) hT.1⟩
theorem tk_225 (hT : TW E) : E.2.2.2.1 225 = .inr (0, 16) := hT.2.1 (225, .inr (0, 16)) (List.mem_of_getElem? (i := 11) rfl)
theorem tb_225 (hT : TW E) : 16 ≤ 225 ∧ 225 < E.2.2.1 := ⟨by decide, Nat.lt_of_lt_of_le (by decide) hT.1⟩
theorem tk_226 (hT : TW E) : E.2.2.2.1 226 = .inr (0, 16) := hT.2.1 (226, .inr (0, 16)) (List.mem_of_getElem? (i := 12) rfl)
theorem tb_226 (hT : TW E) : 16 ≤ 226 ∧ 226 < E.2.2.1 := ⟨by decide, Nat.lt_of_lt_of_le (by decide) hT.1⟩
theorem tk_227 (hT : TW E) : E.2.2.2.1 227 = .inr (0, 260) := hT.2.1 (227, .inr (0, 260)) (List.mem_of_getElem? (i := 13) rfl)
theorem tb_227 (hT : TW E) : 16 ≤ 227 ∧ 227 < E.2.2.1 := ⟨by decide, Nat.lt_of_lt_of_le (by decide) hT.1⟩
theorem tk_228 (hT : TW E) : E.2.2.2.1 228 = .inr (0, 16) := hT.2.1 (228, .inr (0, 16)) (List.mem_of_getElem? (i := 14) rfl)
theorem tb_228 (hT : TW E) : 16 ≤ 228 ∧ 228 < E.2.2.1 := ⟨by decide, Nat.lt_of_lt_of_le (by decide) hT.1⟩
theorem tk_229 (hT : TW E) : E.2.2.2.1 229 = .inr (0, 16) := hT.2.1 (229, .inr (0, 16)) (List.mem_of_getElem? (i := 15) rfl)
theorem tb_229 (hT : TW E) : 16 ≤ 229 ∧ 229 < E.2.2.1 := ⟨by decide, Nat.lt_of_lt_of_le (by decide) hT.1⟩
theorem tk_230 (hT : TW E) : E.2.2.2.1 230 = .inr (0, 16) := hT.2.1 (230, .inr (0, 16)) (List.mem_of_getElem? (i := 16) rfl)
theorem tb_230 (hT : TW E) : 16 ≤ 230 ∧ 230 < E.2.2.1 := ⟨by decide, Nat.lt_of_lt_of_le (by decide) hT.1⟩
theorem tk_231 (hT : TW E) : E.2.2.2.1 231 = .inr (0, 16) := hT.2.1 (231, .inr (0, 16)) (List.mem_of_getElem? (i := 17) rfl)
theorem tb_231 (hT : TW E) : 16 ≤ 231 ∧ 231 < E.2.2.1 := ⟨by decide, Nat.lt_of_lt_of_le (by decide) hT.1⟩
theorem tk_232 (hT : TW E) : E.2.2.2.1 232 = .inr (0, 260) := hT.2.1 (232, .inr (0, 260)) (List.mem_of_getElem? (i := 18) rfl)
theorem tb_232 (hT : TW E) : 16 ≤ 232 ∧ 232 < E.2.2.1 := ⟨by decide, Nat.lt_of_lt_of_le (by decide) hT.1⟩
theorem tk_233 (hT : TW E) : E.2.2.2.1 233 = .inr (0, 9) := hT.2.1 (233, .inr (0, 9)) (List.mem_of_getElem? (i := 19) rfl)
theorem tb_233 (hT : TW E) : 16 ≤ 233 ∧ 233 < E.2.2.1 := ⟨by decide, Nat.lt_of_lt_of_le (by decide) hT.1⟩
theorem tk_234 (hT : TW E) : E.2.2.2.1 234 = .inr (0, 96) := hT.2.1 (234, .inr (0, 96)) (List.mem_of_getElem? (i := 20) rfl)
theorem tb_234 (hT : TW E) : 16 ≤ 234 ∧ 234 < E.2.2.1 := ⟨by decide, Nat.lt_of_lt_of_le (by decide) hT.1⟩
theorem tk_235 (hT : TW E) : E.2.2.2.1 235 = .inr (2, 96) := hT.2.1 (235, .inr (2, 96)) (List.mem_of_getElem? (i := 21) rfl)
theorem tb_235 (hT : TW E) : 16 ≤ 235 ∧ 235 < E.2.2.1 := ⟨by decide, Nat.lt_of_lt_of_le (by decide) hT.1⟩
theorem tk_236 (hT : TW E) : E.2.2.2.1 236 = .inr (0, 96) := hT.2.1 (236, .inr (0, 96)) (List.mem_of_getElem? (i := 22) rfl)
theorem tb_236 (hT : TW E) : 16 ≤ 236 ∧ 236 < E.2.2.1 := ⟨by decide, Nat.lt_of_lt_of_le (by decide) hT.1⟩
theorem tk_237 (hT : TW E) : E.2.2.2.1 237 = .inr (0, 192) := hT.2.1 (237, .inr (0, 192)) (List.mem_of_getElem? (i := 23) rfl)
theorem tb_237 (hT : TW E) : 16 ≤ 237 ∧ 237 < E.2.2.1 := ⟨by decide, Nat.lt_of_lt_of_le (by decide) hT.1⟩
theorem tk_238 (hT : TW E) : E.2.2.2.1 238 = .inr (0, 96) := hT.2.1 (238, .inr (0, 96)) (List.mem_of_getElem? (i := 24) rfl)
theorem tb_238 (hT : TW E) : 16 ≤ 238 ∧ 238 < E.2.2.1 := ⟨by decide, Nat.lt_of_lt_of_le (by decide) hT.1⟩
theorem tk_239 (hT : TW E) : E.2.2.2.1 239 = .inr (0, 96) := hT.2.1 (239, .inr (0, 96)) (List.mem_of_getElem? (i := 25) rfl)
theorem tb_239 (hT : TW E) : 16 ≤ 239 ∧ 239 < E.2.2.1 := ⟨by decide, Nat.lt_of_lt_of_le (by decide) hT.1⟩
theorem tk_240 (hT : TW E) : E.2.2.2.1 240 = .inr (0, 192) := hT.2.1 (240, .inr (0, 192)) (List.mem_of_getElem? (i := 26) rfl)
theorem tb_240 (hT : TW E) : 16 ≤ 240 ∧ 240 < E.2.2.1 := ⟨by decide, Nat.lt_of_lt_of_le (by decide) hT.1⟩
theorem tk_241 (hT : TW E) : E.2.2.2.1 241 = .inr (0, 192) := hT.2.1 (241, .inr (0, 192)) (List.mem_of_getElem? (i := 27) rfl)
theorem tb_241 (hT : TW E) : 16 ≤ 241 ∧ 241 < E.2.2.1 := ⟨by decide, Nat.lt_of_lt_of_le (by decide) hT.1⟩
theorem tk_242 (hT : TW E) : E.2.2.2.1 242 = .inr (0, 96) := hT.2.1 (242, .inr (0, 96)) (List.mem_of_getElem? (i := 28) rfl)
theorem tb_242 (hT : TW E) : 16 ≤ 242 ∧ 242 < E.2.2.1 := ⟨by decide, Nat.lt_of_lt_of_le (by decide) hT.1⟩
theorem tk_243 (hT : TW E) : E.2.2.2.1 243 = .inr (0, 96) := hT.2.1 (243, .inr (0, 96)) (List.mem_of_getElem? (i := 29) rfl)
theorem tb_243 (hT : TW E) : 16 ≤ 243 ∧ 243 < E.2.2.1 := ⟨by decide, Nat.lt_of_lt_of_le (by decide) hT.1⟩
theorem tk_244 (hT : TW E) : E.2.2.2.1 244 = .inr (0, 10) := hT.2.1 (244, .inr (0, 10)) (List.mem_of_getElem? (i := 30) rfl)
theorem tb_244 (hT : TW E) : 16 ≤ 244 ∧ 244 < E.2.2.1 := ⟨by decide, Nat.lt_of_lt_of_le (by decide) hT.1⟩
theorem tr_0 (hT : TW E) : E.2.2.2.2 214 0 = some 215 := hT.2.2 (0, 215) (List.mem_of_getElem? (i := 0) rfl)
theorem tr_1 (hT : TW E) : E.2.2.2.2 214 1 = some 216 := hT.2.2 (1, 216) (List.mem_of_getElem? (i := 1) rfl)
theorem tr_2 (hT : TW E) : E.2.2.2.2 214 2 = some 217 := hT.2.2 (2, 217) (List.mem_of_getElem? (i := 2) rfl)
theorem tr_3 (hT : TW E) : E.2.2.2.2 214 3 = some 218 := hT.2.2 (3, 218) (List.mem_of_getElem? (i := 3) rfl)
theorem tr_4 (hT : TW E) : E.2.2.2.2 214 4 = some 219 := hT.2.2 (4, 219) (List.mem_of_getElem? (i := 4) rfl)
theorem tr_5 (hT : TW E) : E.2.2.2.2 214 5 = some 220 := hT.2.2 (5, 220) (List.mem_of_getElem? (i := 5) rfl)
theorem tr_16 (hT : TW E) : E.2.2.2.2 214 16 = some 221 := hT.2.2 (16, 221) (List.mem_of_getElem? (i := 6) rfl)
theorem tr_17 (hT : TW E) : E.2.2.2.2 214 17 = some 222 := hT.2.2 (17, 222) (List.mem_of_getElem? (i := 7) rfl)
theorem tr_18 (hT : TW E) : E.2.2.2.2 214 18 = some 223 := hT.2.2 (18, 223) (List.mem_of_getElem? (i := 8) rfl)
theorem tr_19 (hT : TW E) : E.2.2.2.2 214 19 = some 224 := hT.2.2 (19, 224) (List.mem_of_getElem? (i := 9) rfl)
theorem tr_20 (hT : TW E) : E.2.2.2.2 214 20 = some 225 := hT.2.2 (20, 225) (List.mem_of_getElem? (i := 10) rfl)
theorem tr_21 (hT : TW E) : E.2.2.2.2 214 21 = some 226 := hT.2.2 (21, 226) (List.mem_of_getElem? (i := 11) rfl)
theorem tr_22 (hT : TW E) : E.2.2.2.2 214 22 = some 227 := hT.2.2 (22, 227) (List.mem_of_getElem? (i := 12) rfl)
theorem tr_23 (hT : TW E) : E.2.2.2.2 214 23 = some 228 := hT.2.2 (23, 228) (List.mem_of_getElem? (i := 13) rfl)
theorem tr_24 (hT : TW E) : E.2.2.2.2 214 24 = some 229 := hT.2.2 (24, 229) (List.mem_of_getElem? (i := 14) rfl)
theorem tr_25 (hT : TW E) : E.2.2.2.2 214 25 = some 230 := hT.2.2 (25, 230) (List.mem_of_getElem? (i := 15) rfl)
theorem tr_26 (hT : TW E) : E.2.2.2.2 214 26 = some 231 := hT.2.2 (26, 231) (List.mem_of_getElem? (i := 16) rfl)
theorem tr_27 (hT : TW E) : E.2.2.2.2 214 27 = some 232 := hT.2.2 (27, 232) (List.mem_of_getElem? (i := 17) rfl)
theorem tr_28 (hT : TW E) : E.2.2.2.2 214 28 = some 233 := hT.2.2 (28, 233) (List.mem_of_getElem? (i := 18) rfl)
theorem tr_29 (hT : TW E) : E.2.2.2.2 214 29 = some 234 := hT.2.2 (29, 234) (List.mem_of_getElem? (i := 19) rfl)
theorem tr_33 (hT : TW E) : E.2.2.2.2 214 33 = some 235 := hT.2.2 (33, 235) (List.mem_of_getElem? (i := 20) rfl)
theorem tr_35 (hT : TW E) : E.2.2.2.2 214 35 = some 236 := hT.2.2 (35, 236) (List.mem_of_getElem? (i := 21) rfl)
theorem tr_36 (hT : TW E) : E.2.2.2.2 214 36 = some 237 := hT.2.2 (36, 237) (List.mem_of_getElem? (i := 22) rfl)
theorem tr_37 (hT : TW E) : E.2.2.2.2 214 37 = some 238 := hT.2.2 (37, 238) (List.mem_of_getElem? (i := 23) rfl)
theorem tr_38 (hT : TW E) : E.2.2.2.2 214 38 = some 239 := hT.2.2 (38, 239) (List.mem_of_getElem? (i := 24) rfl)
theorem tr_39 (hT : TW E) : E.2.2.2.2 214 39 = some 240 := hT.2.2 (39, 240) (List.mem_of_getElem? (i := 25) rfl)
theorem tr_41 (hT : TW E) : E.2.2.2.2 214 41 = some 241 := hT.2.2 (41, 241) (List.mem_of_getElem? (i := 26) rfl)
theorem tr_42 (hT : TW E) : E.2.2.2.2 214 42 = some 242 := hT.2.2 (42, 242) (List.mem_of_getElem? (i := 27) rfl)
theorem tr_43 (hT : TW E) : E.2.2.2.2 214 43 = some 243 := hT.2.2 (43, 243) (List.mem_of_getElem? (i := 28) rfl)
theorem tr_44 (hT : TW E) : E.2.2.2.2 214 44 = some 244 := hT.2.2 (44, 244) (List.mem_of_getElem? (i := 29) rfl)
end TWS
theorem fk6_7 : FLk "InsuredFlameModel" 7 5 0 := ⟨_, _, _, rfl, by decide, in_X6, tyX6_ok, Or.inl q1184⟩
theorem fk6_13 : FLk "InsuredFlameModel" 13 5 1 := ⟨_, _, _, rfl, by decide, in_X6, tyX6_ok, Or.inl q1185⟩
theorem fk6_16 : FLk "InsuredFlameModel" 16 5 2 := ⟨_, _, _, rfl, by decide, in_X6, tyX6_ok, Or.inl q1186⟩
theorem fk6_19 : FLk "InsuredFlameModel" 19 5 3 := ⟨_, _, _, rfl, by decide, in_X6, tyX6_ok, Or.inl q1187⟩
theorem fk6_22 : FLk "InsuredFlameModel" 22 5 4 := ⟨_, _, _, rfl, by decide, in_X6, tyX6_ok, Or.inl q1188⟩
theorem fk6_25 : FLk "InsuredFlameModel" 25 5 5 := ⟨_, _, _, rfl, by decide, in_X6, tyX6_ok, Or.inl q1189⟩
theorem fk6_29 : FLk "InsuredFlameModel" 29 5 16 := ⟨_, _, _, rfl, by decide, in_X6, tyX6_ok, Or.inl q1200⟩
theorem fk6_32 : FLk "InsuredFlameModel" 32 5 17 := ⟨_, _, _, rfl, by decide, in_X6, tyX6_ok, Or.inl q1201⟩
theorem fk6_35 : FLk "InsuredFlameModel" 35 5 18 := ⟨_, _, _, rfl, by decide, in_X6, tyX6_ok, Or.inl q1202⟩
theorem fk6_38 : FLk "InsuredFlameModel" 38 5 19 := ⟨_, _, _, rfl, by decide, in_X6, tyX6_ok, Or.inl q1203⟩
theorem fk6_41 : FLk "InsuredFlameModel" 41 5 20 := ⟨_, _, _, rfl, by decide, in_X6, tyX6_ok, Or.inl q1204⟩
theorem fk6_44 : FLk "InsuredFlameModel" 44 5 21 := ⟨_, _, _, rfl, by decide, in_X6, tyX6_ok, Or.inl q1205⟩
theorem fk6_47 : FLk "InsuredFlameModel" 47 5 22 := ⟨_, _, _, rfl, by decide, in_X6, tyX6_ok, Or.inl q1206⟩
theorem fk6_50 : FLk "InsuredFlameModel" 50 5 23 := ⟨_, _, _, rfl, by decide, in_X6, tyX6_ok, Or.inl q1207⟩
theorem fk6_53 : FLk "InsuredFlameModel" 53 5 24 := ⟨_, _, _, rfl, by decide, in_X6, tyX6_ok, Or.inl q1208⟩
theorem fk6_56 : FLk "InsuredFlameModel" 56 5 25 := ⟨_, _, _, rfl, by decide, in_X6, tyX6_ok, Or.inl q1209⟩
theorem fk6_59 : FLk "InsuredFlameModel" 59 5 26 := ⟨_, _, _, rfl, by decide, in_X6, tyX6_ok, Or.inl q1210⟩
theorem fk6_62 : FLk "InsuredFlameModel" 62 5 27 := ⟨_, _, _, rfl, by decide, in_X6, tyX6_ok, Or.inl q1211⟩
theorem fk6_65 : FLk "InsuredFlameModel" 65 5 28 := ⟨_, _, _, rfl, by decide, in_X6, tyX6_ok, Or.inl q1212⟩
theorem fk6_68 : FLk "InsuredFlameModel" 68 5 29 := ⟨_, _, _, rfl, by decide, in_X6, tyX6_ok, Or.inl q1213⟩
theorem fk6_71 : FLk "InsuredFlameModel" 71 5 33 := ⟨_, _, _, rfl, by decide, in_X6, tyX6_ok, Or.inl q1217⟩
theorem fk6_75 : FLk "InsuredFlameModel" 75 5 35 := ⟨_, _, _, rfl, by decide, in_X6, tyX6_ok, Or.inl q1219⟩
theorem fk6_78 : FLk "InsuredFlameModel" 78 5 36 := ⟨_, _, _, rfl, by decide, in_X6, tyX6_ok, Or.inl q1220⟩
theorem fk6_81 : FLk "InsuredFlameModel" 81 5 37 := ⟨_, _, _, rfl, by decide, in_X6, tyX6_ok, Or.inl q1221⟩
theorem fk6_84 : FLk "InsuredFlameModel" 84 5 38 := ⟨_, _, _, rfl, by decide, in_X6, tyX6_ok, Or.inl q1222⟩
theorem fk6_87 : FLk "InsuredFlameModel" 87 5 39 := ⟨_, _, _, rfl, by decide, in_X6, tyX6_ok, Or.inl q1223⟩
theorem fk6_90 : FLk "InsuredFlameModel" 90 5 41 := ⟨_, _, _, rfl, by decide, in_X6, tyX6_ok, Or.inl q1225⟩
theorem fk6_93 : FLk "InsuredFlameModel" 93 5 42 := ⟨_, _, _, rfl, by decide, in_X6, tyX6_ok, Or.inl q1226⟩
theorem fk6_96 : FLk "InsuredFlameModel" 96 5 43 := ⟨_, _, _, rfl, by decide, in_X6, tyX6_ok, Or.inl q1227⟩
theorem fk6_99 : FLk "InsuredFlameModel" 99 5 44 := ⟨_, _, _, rfl, by decide, in_X6, tyX6_ok, Or.inl q1228⟩
theorem fk6_117 : FLk "InsuredFlameModel" 117 5 6 := ⟨_, _, _, rfl, by decide, in_X6, tyX6_ok, Or.inl q1190⟩
theorem fk6_125 : FLk "InsuredFlameModel" 125 5 7 := ⟨_, _, _, rfl, by decide, in_X6, tyX6_ok, Or.inl q1191⟩
theorem fk6_128 : FLk "InsuredFlameModel" 128 5 8 := ⟨_, _, _, rfl, by decide, in_X6, tyX6_ok, Or.inl q1192⟩
theorem fk6_135 : FLk "InsuredFlameModel" 135 5 9 := ⟨_, _, _, rfl, by decide, in_X6, tyX6_ok, Or.inl q1193⟩
theorem fk6_141 : FLk "InsuredFlameModel" 141 5 10 := ⟨_, _, _, rfl, by decide, in_X6, tyX6_ok, Or.inl q1194⟩
theorem fk6_148 : FLk "InsuredFlameModel" 148 5 12 := ⟨_, _, _, rfl, by decide, in_X6, tyX6_ok, Or.inl q1196⟩
theorem fk6_152 : FLk "InsuredFlameModel" 152 5 11 := ⟨_, _, _, rfl, by decide, in_X6, tyX6_ok, Or.inl q1195⟩
theorem fk6_155 : FLk "InsuredFlameModel" 155 5 13 := ⟨_, _, _, rfl, by decide, in_X6, tyX6_ok, Or.inl q1197⟩
theorem fk6_203 : FLk "InsuredFlameModel" 203 5 14 := ⟨_, _, _, rfl, by decide, in_X6, tyX6_ok, Or.inl q1198⟩
theorem fk6_218 : FLk "InsuredFlameModel" 218 5 15 := ⟨_, _, _, rfl, by decide, in_X6, tyX6_ok, Or.inl q1199⟩
theorem fk6_244 : FLk "InsuredFlameModel" 244 5 32 := ⟨_, _, _, rfl, by decide, in_X6, tyX6_ok, Or.inl q1216⟩
theorem fk6_250 : FLk "InsuredFlameModel" 250 5 31 := ⟨_, _, _, rfl, by decide, in_X6, tyX6_ok, Or.inl q1215⟩
theorem fk6_256 : FLk "InsuredFlameModel" 256 5 30 := ⟨_, _, _, rfl, by decide, in_X6, tyX6_ok, Or.inl q1214⟩
theorem fk6_294 : FLk "InsuredFlameModel" 294 5 34 := ⟨_, _, _, rfl, by decide, in_X6, tyX6_ok, Or.inl q1218⟩
theorem fk6_349 : FLk "InsuredFlameModel" 349 5 40 := ⟨_, _, _, rfl, by decide, in_X6, tyX6_ok, Or.inl q1224⟩
theorem fk6_400 : FLk "InsuredFlameModel" 400 5 45 := ⟨_, _, _, rfl, by decide, in_X6, tyX6_ok, Or.inl q1229⟩
theorem fp6_117 {nm : String} : FPk "InsuredFlameModel" nm 117 5 6 := ⟨_, _, _, rfl, by decide, in_X6, tyX6_ok, Or.inl ⟨rfl, Or.inl q1190⟩, fun j hj hne => nmX6 j hj 6 (by decide) hne⟩
theorem fp6_125 {nm : String} : FPk "InsuredFlameModel" nm 125 5 7 := ⟨_, _, _, rfl, by decide, in_X6, tyX6_ok, Or.inl ⟨rfl, Or.inl q1191⟩, fun j hj hne => nmX6 j hj 7 (by decide) hne⟩
theorem fp6_128 {nm : String} : FPk "InsuredFlameModel" nm 128 5 8 := ⟨_, _, _, rfl, by decide, in_X6, tyX6_ok, Or.inl ⟨rfl, Or.inl q1192⟩, fun j hj hne => nmX6 j hj 8 (by decide) hne⟩
theorem fp6_135 {nm : String} : FPk "InsuredFlameModel" nm 135 5 9 := ⟨_, _, _, rfl, by decide, in_X6, tyX6_ok, Or.inl ⟨rfl, Or.inl q1193⟩, fun j hj hne => nmX6 j hj 9 (by decide) hne⟩
theorem fp6_141 {nm : String} : FPk "InsuredFlameModel" nm 141 5 10 := ⟨_, _, _, rfl, by decide, in_X6, tyX6_ok, Or.inl ⟨rfl, Or.inl q1194⟩, fun j hj hne => nmX6 j hj 10 (by decide) hne⟩
theorem fp6_148 {nm : String} : FPk "InsuredFlameModel" nm 148 5 12 := ⟨_, _, _, rfl, by decide, in_X6, tyX6_ok, Or.inl ⟨rfl, Or.inl q1196⟩, fun j hj hne => nmX6 j hj 12 (by decide) hne⟩
theorem fp6_152 {nm : String} : FPk "InsuredFlameModel" nm 152 5 11 := ⟨_, _, _, rfl, by decide, in_X6, tyX6_ok, Or.inl ⟨rfl, Or.inl q1195⟩, fun j hj hne => nmX6 j hj 11 (by decide) hne⟩
theorem fp6_155 {nm : String} : FPk "InsuredFlameModel" nm 155 5 13 := ⟨_, _, _, rfl, by decide, in_X6, tyX6_ok, Or.inl ⟨rfl, Or.inl q1197⟩, fun j hj hne => nmX6 j hj 13 (by decide) hne⟩
theorem fp6_203 {nm : String} : FPk "InsuredFlameModel" nm 203 5 14 := ⟨_, _, _, rfl, by decide, in_X6, tyX6_ok, Or.inl ⟨rfl, Or.inl q1198⟩, fun j hj hne => nmX6 j hj 14 (by decide) hne⟩
theorem fp6_218 {nm : String} : FPk "InsuredFlameModel" nm 218 5 15 := ⟨_, _, _, rfl, by decide, in_X6, tyX6_ok, Or.inl ⟨rfl, Or.inl q1199⟩, fun j hj hne => nmX6 j hj 15 (by decide) hne⟩
theorem fp6_244 {nm : String} : FPk "InsuredFlameModel" nm 244 5 32 := ⟨_, _, _, rfl, by decide, in_X6, tyX6_ok, Or.inl ⟨rfl, Or.inl q1216⟩, fun j hj hne => nmX6 j hj 32 (by decide) hne⟩
theorem fp6_250 {nm : String} : FPk "InsuredFlameModel" nm 250 5 31 := ⟨_, _, _, rfl, by decide, in_X6, tyX6_ok, Or.inl ⟨rfl, Or.inl q1215⟩, fun j hj hne => nmX6 j hj 31 (by decide) hne⟩
theorem fp6_256 {nm : String} : FPk "InsuredFlameModel" nm 256 5 30 := ⟨_, _, _, rfl, by decide, in_X6, tyX6_ok, Or.inl ⟨rfl, Or.inl q1214⟩, fun j hj hne => nmX6 j hj 30 (by decide) hne⟩
theorem fp6_294 {nm : String} : FPk "InsuredFlameModel" nm 294 5 34 := ⟨_, _, _, rfl, by decide, in_X6, tyX6_ok, Or.inl ⟨rfl, Or.inl q1218⟩, fun j hj hne => nmX6 j hj 34 (by decide) hne⟩
theorem fp6_349 {nm : String} : FPk "InsuredFlameModel" nm 349 5 40 := ⟨_, _, _, rfl, by decide, in_X6, tyX6_ok, Or.inl ⟨rfl, Or.inl q1224⟩, fun j hj hne => nmX6 j hj 40 (by decide) hne⟩
theorem fp6_400 {nm : String} : FPk "InsuredFlameModel" nm 400 5 45 := ⟨_, _, _, rfl, by decide, in_X6, tyX6_ok, Or.inl ⟨rfl, Or.inl q1229⟩, fun j hj hne => nmX6 j hj 45 (by decide) hne⟩
theorem lk6_102 : LkS "InsuredFlameModel" 102 yX6_in cX6_in 3 (some .boolean) 3 := ⟨q1335, q1336, q120, q1337, by decide +kernel⟩
theorem lk6_106 : LkS "InsuredFlameModel" 106 yX6_isSpot cX6_isSpot 2 (some .boolean) 2 := ⟨q1517, q1518, q120, q1519, by decide +kernel⟩
theorem lk6_110 : LkS "InsuredFlameModel" 110 yX6_isPlace cX6_isPlace 1 (some .boolean) 1 := ⟨q1444, q1445, q120, q1446, by decide +kernel⟩
theorem lk6_114 : LkV "InsuredFlameModel" 114 "InsuredFlameModel" yX6_isThing cX6_isThing 2 (some .boolean) 1 := ⟨q1466, q1468, qs74, q120, q1469, by decide +kernel⟩
theorem lk6_121 : LkV "InsuredFlameModel" 121 "InsuredFlameModel" yX6_types cX6_types 3 none 1 := ⟨q1327, q1329, qs47, q120, q1330, by decide +kernel⟩
theorem lk6_131 : LkV "InsuredFlameModel" 131 "InsuredFlameModel" yX6_here cX6_here 1 (some .int) 0 := ⟨q1346, q1348, qs50, q120, q1349, by decide +kernel⟩
theorem lk6_138 : LkV "InsuredFlameModel" 138 "InsuredFlameModel" yX6_wrongAt cX6_wrongAt 3 (some .boolean) 2 := ⟨q1350, q1352, qs51, q120, q1353, by decide +kernel⟩
theorem lk6_144 : LkV "InsuredFlameModel" 144 "InsuredFlameModel" yX6_isDigit cX6_isDigit 1 (some .boolean) 0 := ⟨q1367, q1369, qs55, q120, q1370, by decide +kernel⟩
theorem lk6_158 : LkV "InsuredFlameModel" 158 "InsuredFlameModel" yX6_waitTop cX6_waitTop 1 (some .int) 0 := ⟨q1389, q1391, qs59, q120, q1392, by decide +kernel⟩
theorem lk6_161 : LkV "InsuredFlameModel" 161 "InsuredFlameModel" yX6_notes cX6_notes 3 none 2 := ⟨q1375, q1377, qs57, q120, q1378, by decide +kernel⟩
theorem lk6_165 : LkV "InsuredFlameModel" 165 "InsuredFlameModel" yX6_opens cX6_opens 2 (some .boolean) 1 := ⟨q1362, q1364, qs54, q120, q1365, by decide +kernel⟩
theorem lk6_168 : LkV "InsuredFlameModel" 168 "InsuredFlameModel" yX6_readsNumber cX6_readsNumber 2 (some .boolean) 0 := ⟨q1371, q1373, qs56, q120, q1374, by decide +kernel⟩
theorem lk6_171 : LkS "InsuredFlameModel" 171 yX6_factOf cX6_factOf 1 (some .int) 1 := ⟨q1379, q1380, q120, q1381, by decide +kernel⟩
theorem lk6_175 : LkV "InsuredFlameModel" 175 "InsuredFlameModel" yX6_readsFactor cX6_readsFactor 2 (some .boolean) 0 := ⟨q1358, q1360, qs53, q120, q1361, by decide +kernel⟩
theorem lk6_178 : LkS "InsuredFlameModel" 178 yX6_sumSign cX6_sumSign 1 (some .int) 1 := ⟨q1382, q1383, q120, q1384, by decide +kernel⟩
theorem lk6_181 : LkV "InsuredFlameModel" 181 "InsuredFlameModel" yX6_closesSums cX6_closesSums 2 none 1 := ⟨q1385, q1387, qs58, q120, q1388, by decide +kernel⟩
theorem lk6_185 : LkV "InsuredFlameModel" 185 "InsuredFlameModel" yX6_hasOpenSum cX6_hasOpenSum 3 (some .boolean) 1 := ⟨q1393, q1395, qs60, q120, q1396, by decide +kernel⟩
theorem lk6_188 : LkV "InsuredFlameModel" 188 "InsuredFlameModel" yX6_readsSum cX6_readsSum 3 (some .boolean) 0 := ⟨q1354, q1356, qs52, q120, q1357, by decide +kernel⟩
theorem lk6_191 : LkV "InsuredFlameModel" 191 "InsuredFlameModel" yX6_endsPiece cX6_endsPiece 1 none 0 := ⟨q1405, q1407, qs63, q120, q1408, by decide +kernel⟩
theorem lk6_194 : LkV "InsuredFlameModel" 194 "InsuredFlameModel" yX6_readsCompared cX6_readsCompared 2 (some .boolean) 0 := ⟨q1401, q1403, qs62, q120, q1404, by decide +kernel⟩
theorem lk6_197 : LkV "InsuredFlameModel" 197 "InsuredFlameModel" yX6_lands cX6_lands 3 none 1 := ⟨q1409, q1411, qs64, q120, q1412, by decide +kernel⟩
theorem lk6_200 : LkV "InsuredFlameModel" 200 "InsuredFlameModel" yX6_jumps cX6_jumps 2 none 1 := ⟨q1413, q1415, qs65, q120, q1416, by decide +kernel⟩
theorem lk6_206 : LkV "InsuredFlameModel" 206 "InsuredFlameModel" yX6_readsCondition cX6_readsCondition 1 (some .boolean) 0 := ⟨q1397, q1399, qs61, q120, q1400, by decide +kernel⟩
theorem lk6_209 : LkV "InsuredFlameModel" 209 "InsuredFlameModel" yX6_beginsText cX6_beginsText 2 none 1 := ⟨q1338, q1340, qs48, q120, q1341, by decide +kernel⟩
theorem lk6_212 : LkV "InsuredFlameModel" 212 "InsuredFlameModel" yX6_readsRule cX6_readsRule 2 (some .boolean) 0 := ⟨q1342, q1344, qs49, q120, q1345, by decide +kernel⟩
theorem lk6_215 : LkV "InsuredFlameModel" 215 "InsuredFlameModel" yX6_takes cX6_takes 2 (some .boolean) 1 := ⟨q1417, q1419, qs66, q120, q1420, by decide +kernel⟩
theorem lk6_221 : LkS "InsuredFlameModel" 221 yX6_reckon cX6_reckon 3 (some .int) 3 := ⟨q1544, q1545, q120, q1546, by decide +kernel⟩
theorem lk6_225 : LkV "InsuredFlameModel" 225 "InsuredFlameModel" yX6_reckonsTo cX6_reckonsTo 8 (some .int) 2 := ⟨q1540, q1542, qs90, q120, q1543, by decide +kernel⟩
theorem lk6_229 : LkS "InsuredFlameModel" 229 yX6_kindBy cX6_kindBy 1 (some .int) 1 := ⟨q1433, q1434, q120, q1435, by decide +kernel⟩
theorem lk6_232 : LkV "InsuredFlameModel" 232 "InsuredFlameModel" yX6_canBeginRow cX6_canBeginRow 1 (some .boolean) 0 := ⟨q1429, q1431, qs68, q120, q1432, by decide +kernel⟩
theorem lk6_235 : LkV "InsuredFlameModel" 235 "InsuredFlameModel" yX6_readsRow cX6_readsRow 8 (some .boolean) 1 := ⟨q1425, q1427, qs67, q120, q1428, by decide +kernel⟩
theorem lk6_238 : LkV "InsuredFlameModel" 238 "InsuredFlameModel" yX6_becomesWhole cX6_becomesWhole 2 none 1 := ⟨q1436, q1438, qs69, q120, q1439, by decide +kernel⟩
theorem lk6_241 : LkV "InsuredFlameModel" 241 "InsuredFlameModel" yX6_isWood cX6_isWood 2 (some .boolean) 1 := ⟨q1440, q1442, qs70, q120, q1443, by decide +kernel⟩
theorem lk6_247 : LkV "InsuredFlameModel" 247 "InsuredFlameModel" yX6_readsWithin cX6_readsWithin 3 (some .boolean) 1 := ⟨q1462, q1464, qs73, q120, q1465, by decide +kernel⟩
theorem lk6_253 : LkV "InsuredFlameModel" 253 "InsuredFlameModel" yX6_readsSpot cX6_readsSpot 2 (some .boolean) 0 := ⟨q1470, q1472, qs75, q120, q1473, by decide +kernel⟩
theorem lk6_259 : LkV "InsuredFlameModel" 259 "InsuredFlameModel" yX6_readsThing cX6_readsThing 4 (some .boolean) 0 := ⟨q1458, q1460, qs72, q120, q1461, by decide +kernel⟩
theorem lk6_262 : LkV "InsuredFlameModel" 262 "InsuredFlameModel" yX6_readsFire cX6_readsFire 1 (some .boolean) 0 := ⟨q1474, q1476, qs76, q120, q1477, by decide +kernel⟩
theorem lk6_265 : LkV "InsuredFlameModel" 265 "InsuredFlameModel" yX6_readsWater cX6_readsWater 1 (some .boolean) 0 := ⟨q1478, q1480, qs77, q120, q1481, by decide +kernel⟩
theorem lk6_268 : LkV "InsuredFlameModel" 268 "InsuredFlameModel" yX6_readsWind cX6_readsWind 1 (some .boolean) 0 := ⟨q1482, q1484, qs78, q120, q1485, by decide +kernel⟩
theorem lk6_271 : LkS "InsuredFlameModel" 271 yX6_copies cX6_copies 3 none 2 := ⟨q1451, q1452, q120, q1453, by decide +kernel⟩
theorem lk6_275 : LkV "InsuredFlameModel" 275 "InsuredFlameModel" yX6_readsLine cX6_readsLine 2 (some .boolean) 0 := ⟨q1454, q1456, qs71, q120, q1457, by decide +kernel⟩
theorem lk6_278 : LkV "InsuredFlameModel" 278 "InsuredFlameModel" yX6_liesAt cX6_liesAt 3 (some .boolean) 2 := ⟨q1506, q1508, qs83, q120, q1509, by decide +kernel⟩
theorem lk6_281 : LkS "InsuredFlameModel" 281 yX6_beside cX6_beside 4 (some .int) 2 := ⟨q1514, q1515, q120, q1516, by decide +kernel⟩
theorem lk6_284 : LkV "InsuredFlameModel" 284 "InsuredFlameModel" yX6_burnNextTo cX6_burnNextTo 4 (some .int) 1 := ⟨q1524, q1526, qs86, q120, q1527, by decide +kernel⟩
theorem lk6_287 : LkV "InsuredFlameModel" 287 "InsuredFlameModel" yX6_valuesAt cX6_valuesAt 4 (some .int) 1 := ⟨q1528, q1530, qs87, q120, q1531, by decide +kernel⟩
theorem lk6_290 : LkV "InsuredFlameModel" 290 "InsuredFlameModel" yX6_sumsAt cX6_sumsAt 4 (some .int) 1 := ⟨q1532, q1534, qs88, q120, q1535, by decide +kernel⟩
theorem lk6_297 : LkV "InsuredFlameModel" 297 "InsuredFlameModel" yX6_feels cX6_feels 5 none 4 := ⟨q1520, q1522, qs85, q120, q1523, by decide +kernel⟩
theorem lk6_301 : LkV "InsuredFlameModel" 301 "InsuredFlameModel" yX6_byLaw cX6_byLaw 6 (some .int) 3 := ⟨q1536, q1538, qs89, q120, q1539, by decide +kernel⟩
theorem lk6_304 : LkV "InsuredFlameModel" 304 "InsuredFlameModel" yX6_draws cX6_draws 1 (some .int) 0 := ⟨q1547, q1549, qs91, q120, q1550, by decide +kernel⟩
theorem lk6_307 : LkV "InsuredFlameModel" 307 "InsuredFlameModel" yX6_takesThings cX6_takesThings 3 none 1 := ⟨q1502, q1504, qs82, q120, q1505, by decide +kernel⟩
theorem lk6_310 : LkV "InsuredFlameModel" 310 "InsuredFlameModel" yX6_goesOver cX6_goesOver 5 none 2 := ⟨q1510, q1512, qs84, q120, q1513, by decide +kernel⟩
theorem lk6_313 : LkV "InsuredFlameModel" 313 "InsuredFlameModel" yX6_holdsAny cX6_holdsAny 3 (some .boolean) 1 := ⟨q1552, q1554, qs92, q120, q1555, by decide +kernel⟩
theorem lk6_316 : LkV "InsuredFlameModel" 316 "InsuredFlameModel" yX6_turnOf cX6_turnOf 3 none 1 := ⟨q1498, q1500, qs81, q120, q1501, by decide +kernel⟩
theorem lk6_319 : LkV "InsuredFlameModel" 319 "InsuredFlameModel" yX6_minuteGoes cX6_minuteGoes 2 none 0 := ⟨q1494, q1496, qs80, q120, q1497, by decide +kernel⟩
theorem lk6_322 : LkV "InsuredFlameModel" 322 "InsuredFlameModel" yX6_minutesGo cX6_minutesGo 3 none 1 := ⟨q1490, q1492, qs79, q120, q1493, by decide +kernel⟩
theorem lk6_325 : LkV "InsuredFlameModel" 325 "InsuredFlameModel" yX6_faring cX6_faring 4 (some .int) 1 := ⟨q1556, q1558, qs93, q120, q1559, by decide +kernel⟩
theorem lk6_328 : LkV "InsuredFlameModel" 328 "InsuredFlameModel" yX6_goneSet cX6_goneSet 3 (some .int) 0 := ⟨q1564, q1566, qs94, q120, q1567, by decide +kernel⟩
theorem lk6_331 : LkV "InsuredFlameModel" 331 "InsuredFlameModel" yX6_sumsInRuins cX6_sumsInRuins 3 (some .int) 0 := ⟨q1568, q1570, qs95, q120, q1571, by decide +kernel⟩
theorem lk6_334 : LkV "InsuredFlameModel" 334 "InsuredFlameModel" yX6_thingsAt cX6_thingsAt 4 (some .int) 1 := ⟨q1576, q1578, qs96, q120, q1579, by decide +kernel⟩
theorem lk6_337 : LkV "InsuredFlameModel" 337 "InsuredFlameModel" yX6_clearsFire cX6_clearsFire 2 none 0 := ⟨q1600, q1602, qs98, q120, q1603, by decide +kernel⟩
theorem lk6_340 : LkV "InsuredFlameModel" 340 "InsuredFlameModel" yX6_laysFire cX6_laysFire 6 none 1 := ⟨q1604, q1606, qs99, q120, q1607, by decide +kernel⟩
theorem lk6_343 : LkV "InsuredFlameModel" 343 "InsuredFlameModel" yX6_laysFireFrom cX6_laysFireFrom 2 none 1 := ⟨q1596, q1598, qs97, q120, q1599, by decide +kernel⟩
theorem lk6_346 : LkV "InsuredFlameModel" 346 "InsuredFlameModel" yX6_couldBegin cX6_couldBegin 4 (some .boolean) 2 := ⟨q1612, q1614, qs100, q120, q1615, by decide +kernel⟩
theorem lk6_352 : LkV "InsuredFlameModel" 352 "InsuredFlameModel" yX6_visits cX6_visits 3 none 2 := ⟨q1628, q1630, qs103, q120, q1631, by decide +kernel⟩
theorem lk6_355 : LkV "InsuredFlameModel" 355 "InsuredFlameModel" yX6_findsWay cX6_findsWay 9 (some .boolean) 2 := ⟨q1624, q1626, qs102, q120, q1627, by decide +kernel⟩
theorem lk6_358 : LkV "InsuredFlameModel" 358 "InsuredFlameModel" yX6_goesAlong cX6_goesAlong 8 none 2 := ⟨q1632, q1634, qs104, q120, q1635, by decide +kernel⟩
theorem lk6_361 : LkV "InsuredFlameModel" 361 "InsuredFlameModel" yX6_waysApart cX6_waysApart 5 (some .int) 2 := ⟨q1620, q1622, qs101, q120, q1623, by decide +kernel⟩
theorem lk6_364 : LkV "InsuredFlameModel" 364 "InsuredFlameModel" yX6_laysFireNow cX6_laysFireNow 3 none 0 := ⟨q1640, q1642, qs105, q120, q1643, by decide +kernel⟩
theorem lk6_367 : LkS "InsuredFlameModel" 367 yX6_isAtEdge cX6_isAtEdge 1 (some .boolean) 1 := ⟨q1644, q1645, q120, q1646, by decide +kernel⟩
theorem lk6_370 : LkV "InsuredFlameModel" 370 "InsuredFlameModel" yX6_woodSeen cX6_woodSeen 3 (some .int) 0 := ⟨q1655, q1657, qs106, q120, q1658, by decide +kernel⟩
theorem lk6_373 : LkS "InsuredFlameModel" 373 yX6_max cX6_max 2 (some .int) 2 := ⟨q1659, q1660, q120, q1661, by decide +kernel⟩
theorem lk6_376 : LkS "InsuredFlameModel" 376 yX6_has cX6_has 2 (some .boolean) 2 := ⟨q1666, q1667, q120, q1668, by decide +kernel⟩
theorem lk6_379 : LkV "InsuredFlameModel" 379 "InsuredFlameModel" yX6_octet cX6_octet 2 (some .int) 1 := ⟨q1669, q1671, qs107, q120, q1672, by decide +kernel⟩
theorem lk6_384 : LkS "InsuredFlameModel" 384 yX6_size cX6_size 1 (some .int) 1 := ⟨q1679, q1680, q120, q1681, by decide +kernel⟩
theorem lk6_387 : LkV "InsuredFlameModel" 387 "InsuredFlameModel" yX6_restOf cX6_restOf 6 (some .int) 3 := ⟨q1686, q1688, qs108, q120, q1689, by decide +kernel⟩
theorem lk6_390 : LkS "InsuredFlameModel" 390 yX6_bits cX6_bits 3 (some .int) 1 := ⟨q1690, q1691, q120, q1692, by decide +kernel⟩
theorem lk6_393 : LkV "InsuredFlameModel" 393 "InsuredFlameModel" yX6_laysRow cX6_laysRow 4 none 1 := ⟨q1697, q1699, qs109, q120, q1700, by decide +kernel⟩
theorem lk6_396 : LkV "InsuredFlameModel" 396 "InsuredFlameModel" yX6_worthOf cX6_worthOf 7 (some .int) 2 := ⟨q1701, q1703, qs110, q120, q1704, by decide +kernel⟩
theorem lk6_404 : LkV "InsuredFlameModel" 404 "InsuredFlameModel" yX6_toldSet cX6_toldSet 3 (some .int) 0 := ⟨q1730, q1732, qs111, q120, q1733, by decide +kernel⟩
theorem lk6_407 : LkV "InsuredFlameModel" 407 "InsuredFlameModel" yX6_lostAll cX6_lostAll 3 (some .int) 0 := ⟨q1734, q1736, qs112, q120, q1737, by decide +kernel⟩
theorem pn_6 : plainName "InsuredFlameModel" = true := by decide
def w6_feed (E : eT) (Q : Int32 → vT → Prop) (pc : Nat) (ls : List (Option aV)) (st : List aV) (V : vT) : Prop := wp E.1 E.2.1 (rmQ 1 0 0) "InsuredFlameModel" "feed" cX6_feed 6 (some .int) (Zm E.2.1 0 0 (QI E.2.2.1 E.2.2.2.1 E.2.2.2.2 Q)) pc ls st E.2.2.1 E.2.2.2.1 E.2.2.2.2 V 0 0
def c6_feed (E : eT) (x1 : Int32) (x2 : Int32) (x3 : Int32) (x4 : Int32) (x5 : Int32) (V : vT) (k : Int32 → vT → Prop) : Prop := MOk E.1 E.2.1 1 yX6_feed cX6_feed 6 (some .int) [vr 214, vi x1, vi x2, vi x3, vi x4, vi x5] E.2.2.1 E.2.2.2.1 E.2.2.2.2 V 0 0 (QI E.2.2.1 E.2.2.2.1 E.2.2.2.2 k)
def w6_types (E : eT) (Q : vT → Prop) (pc : Nat) (ls : List (Option aV)) (st : List aV) (V : vT) : Prop := wp E.1 E.2.1 (rmQ 0 0 0) "InsuredFlameModel" "types" cX6_types 3 none (Zm E.2.1 0 0 (QV E.2.2.1 E.2.2.2.1 E.2.2.2.2 Q)) pc ls st E.2.2.1 E.2.2.2.1 E.2.2.2.2 V 0 0
def c6_types (E : eT) (x1 : Int32) (V : vT) (k : vT → Prop) : Prop := MOk E.1 E.2.1 0 yX6_types cX6_types 3 none [vr 214, vi x1] E.2.2.1 E.2.2.2.1 E.2.2.2.2 V 0 0 (QV E.2.2.1 E.2.2.2.1 E.2.2.2.2 k)
def w6_law (E : eT) (Q : Int32 → vT → Prop) (pc : Nat) (ls : List (Option aV)) (st : List aV) (V : vT) : Prop := wp E.1 E.2.1 (rmQ 8 0 0) "InsuredFlameModel" "law" cX6_law 4 (some .int) (Zm E.2.1 0 0 (QI E.2.2.1 E.2.2.2.1 E.2.2.2.2 Q)) pc ls st E.2.2.1 E.2.2.2.1 E.2.2.2.2 V 0 0
def c6_law (E : eT) (x1 : Int32) (V : vT) (k : Int32 → vT → Prop) : Prop := MOk E.1 E.2.1 8 yX6_law cX6_law 4 (some .int) [vr 214, vi x1] E.2.2.1 E.2.2.2.1 E.2.2.2.2 V 0 0 (QI E.2.2.1 E.2.2.2.1 E.2.2.2.2 k)
def w6_in (E : eT) (Q : Int32 → vT → Prop) (pc : Nat) (ls : List (Option aV)) (st : List aV) (V : vT) : Prop := wp E.1 E.2.1 (rmQ 0 0 0) "InsuredFlameModel" "in" cX6_in 3 (some .boolean) (Zm E.2.1 0 0 (QI E.2.2.1 E.2.2.2.1 E.2.2.2.2 Q)) pc ls st E.2.2.1 E.2.2.2.1 E.2.2.2.2 V 0 0
def c6_in (E : eT) (x1 : Int32) (x2 : Int32) (x3 : Int32) (V : vT) (k : Int32 → vT → Prop) : Prop := MOk E.1 E.2.1 0 yX6_in cX6_in 3 (some .boolean) [vi x1, vi x2, vi x3] E.2.2.1 E.2.2.2.1 E.2.2.2.2 V 0 0 (QI E.2.2.1 E.2.2.2.1 E.2.2.2.2 k)
def w6_beginsText (E : eT) (Q : vT → Prop) (pc : Nat) (ls : List (Option aV)) (st : List aV) (V : vT) : Prop := wp E.1 E.2.1 (rmQ 0 0 0) "InsuredFlameModel" "beginsText" cX6_beginsText 2 none (Zm E.2.1 0 0 (QV E.2.2.1 E.2.2.2.1 E.2.2.2.2 Q)) pc ls st E.2.2.1 E.2.2.2.1 E.2.2.2.2 V 0 0
def c6_beginsText (E : eT) (x1 : Int32) (V : vT) (k : vT → Prop) : Prop := MOk E.1 E.2.1 0 yX6_beginsText cX6_beginsText 2 none [vr 214, vi x1] E.2.2.1 E.2.2.2.1 E.2.2.2.2 V 0 0 (QV E.2.2.1 E.2.2.2.1 E.2.2.2.2 k)
def w6_readsRule (E : eT) (Q : Int32 → vT → Prop) (pc : Nat) (ls : List (Option aV)) (st : List aV) (V : vT) : Prop := wp E.1 E.2.1 (rmQ 7 0 0) "InsuredFlameModel" "readsRule" cX6_readsRule 2 (some .boolean) (Zm E.2.1 0 0 (QI E.2.2.1 E.2.2.2.1 E.2.2.2.2 Q)) pc ls st E.2.2.1 E.2.2.2.1 E.2.2.2.2 V 0 0
def c6_readsRule (E : eT)  (V : vT) (k : Int32 → vT → Prop) : Prop := MOk E.1 E.2.1 7 yX6_readsRule cX6_readsRule 2 (some .boolean) [vr 214] E.2.2.1 E.2.2.2.1 E.2.2.2.2 V 0 0 (QI E.2.2.1 E.2.2.2.1 E.2.2.2.2 k)
def w6_here (E : eT) (Q : Int32 → vT → Prop) (pc : Nat) (ls : List (Option aV)) (st : List aV) (V : vT) : Prop := wp E.1 E.2.1 (rmQ 0 0 0) "InsuredFlameModel" "here" cX6_here 1 (some .int) (Zm E.2.1 0 0 (QI E.2.2.1 E.2.2.2.1 E.2.2.2.2 Q)) pc ls st E.2.2.1 E.2.2.2.1 E.2.2.2.2 V 0 0
def c6_here (E : eT)  (V : vT) (k : Int32 → vT → Prop) : Prop := MOk E.1 E.2.1 0 yX6_here cX6_here 1 (some .int) [vr 214] E.2.2.1 E.2.2.2.1 E.2.2.2.2 V 0 0 (QI E.2.2.1 E.2.2.2.1 E.2.2.2.2 k)
def w6_wrongAt (E : eT) (Q : Int32 → vT → Prop) (pc : Nat) (ls : List (Option aV)) (st : List aV) (V : vT) : Prop := wp E.1 E.2.1 (rmQ 0 0 0) "InsuredFlameModel" "wrongAt" cX6_wrongAt 3 (some .boolean) (Zm E.2.1 0 0 (QI E.2.2.1 E.2.2.2.1 E.2.2.2.2 Q)) pc ls st E.2.2.1 E.2.2.2.1 E.2.2.2.2 V 0 0
def c6_wrongAt (E : eT) (x1 : Int32) (x2 : Int32) (V : vT) (k : Int32 → vT → Prop) : Prop := MOk E.1 E.2.1 0 yX6_wrongAt cX6_wrongAt 3 (some .boolean) [vr 214, vi x1, vi x2] E.2.2.1 E.2.2.2.1 E.2.2.2.2 V 0 0 (QI E.2.2.1 E.2.2.2.1 E.2.2.2.2 k)
def w6_readsSum (E : eT) (Q : Int32 → vT → Prop) (pc : Nat) (ls : List (Option aV)) (st : List aV) (V : vT) : Prop := wp E.1 E.2.1 (rmQ 4 0 0) "InsuredFlameModel" "readsSum" cX6_readsSum 3 (some .boolean) (Zm E.2.1 0 0 (QI E.2.2.1 E.2.2.2.1 E.2.2.2.2 Q)) pc ls st E.2.2.1 E.2.2.2.1 E.2.2.2.2 V 0 0
def c6_readsSum (E : eT)  (V : vT) (k : Int32 → vT → Prop) : Prop := MOk E.1 E.2.1 4 yX6_readsSum cX6_readsSum 3 (some .boolean) [vr 214] E.2.2.1 E.2.2.2.1 E.2.2.2.2 V 0 0 (QI E.2.2.1 E.2.2.2.1 E.2.2.2.2 k)
def w6_readsFactor (E : eT) (Q : Int32 → vT → Prop) (pc : Nat) (ls : List (Option aV)) (st : List aV) (V : vT) : Prop := wp E.1 E.2.1 (rmQ 3 0 0) "InsuredFlameModel" "readsFactor" cX6_readsFactor 2 (some .boolean) (Zm E.2.1 0 0 (QI E.2.2.1 E.2.2.2.1 E.2.2.2.2 Q)) pc ls st E.2.2.1 E.2.2.2.1 E.2.2.2.2 V 0 0
def c6_readsFactor (E : eT)  (V : vT) (k : Int32 → vT → Prop) : Prop := MOk E.1 E.2.1 3 yX6_readsFactor cX6_readsFactor 2 (some .boolean) [vr 214] E.2.2.1 E.2.2.2.1 E.2.2.2.2 V 0 0 (QI E.2.2.1 E.2.2.2.1 E.2.2.2.2 k)
def w6_opens (E : eT) (Q : Int32 → vT → Prop) (pc : Nat) (ls : List (Option aV)) (st : List aV) (V : vT) : Prop := wp E.1 E.2.1 (rmQ 1 0 0) "InsuredFlameModel" "opens" cX6_opens 2 (some .boolean) (Zm E.2.1 0 0 (QI E.2.2.1 E.2.2.2.1 E.2.2.2.2 Q)) pc ls st E.2.2.1 E.2.2.2.1 E.2.2.2.2 V 0 0
def c6_opens (E : eT) (x1 : Int32) (V : vT) (k : Int32 → vT → Prop) : Prop := MOk E.1 E.2.1 1 yX6_opens cX6_opens 2 (some .boolean) [vr 214, vi x1] E.2.2.1 E.2.2.2.1 E.2.2.2.2 V 0 0 (QI E.2.2.1 E.2.2.2.1 E.2.2.2.2 k)
def w6_isDigit (E : eT) (Q : Int32 → vT → Prop) (pc : Nat) (ls : List (Option aV)) (st : List aV) (V : vT) : Prop := wp E.1 E.2.1 (rmQ 1 0 0) "InsuredFlameModel" "isDigit" cX6_isDigit 1 (some .boolean) (Zm E.2.1 0 0 (QI E.2.2.1 E.2.2.2.1 E.2.2.2.2 Q)) pc ls st E.2.2.1 E.2.2.2.1 E.2.2.2.2 V 0 0
def c6_isDigit (E : eT)  (V : vT) (k : Int32 → vT → Prop) : Prop := MOk E.1 E.2.1 1 yX6_isDigit cX6_isDigit 1 (some .boolean) [vr 214] E.2.2.1 E.2.2.2.1 E.2.2.2.2 V 0 0 (QI E.2.2.1 E.2.2.2.1 E.2.2.2.2 k)
def w6_readsNumber (E : eT) (Q : Int32 → vT → Prop) (pc : Nat) (ls : List (Option aV)) (st : List aV) (V : vT) : Prop := wp E.1 E.2.1 (rmQ 2 0 0) "InsuredFlameModel" "readsNumber" cX6_readsNumber 2 (some .boolean) (Zm E.2.1 0 0 (QI E.2.2.1 E.2.2.2.1 E.2.2.2.2 Q)) pc ls st E.2.2.1 E.2.2.2.1 E.2.2.2.2 V 0 0
def c6_readsNumber (E : eT)  (V : vT) (k : Int32 → vT → Prop) : Prop := MOk E.1 E.2.1 2 yX6_readsNumber cX6_readsNumber 2 (some .boolean) [vr 214] E.2.2.1 E.2.2.2.1 E.2.2.2.2 V 0 0 (QI E.2.2.1 E.2.2.2.1 E.2.2.2.2 k)
def w6_notes (E : eT) (Q : vT → Prop) (pc : Nat) (ls : List (Option aV)) (st : List aV) (V : vT) : Prop := wp E.1 E.2.1 (rmQ 0 0 0) "InsuredFlameModel" "notes" cX6_notes 3 none (Zm E.2.1 0 0 (QV E.2.2.1 E.2.2.2.1 E.2.2.2.2 Q)) pc ls st E.2.2.1 E.2.2.2.1 E.2.2.2.2 V 0 0
def c6_notes (E : eT) (x1 : Int32) (x2 : Int32) (V : vT) (k : vT → Prop) : Prop := MOk E.1 E.2.1 0 yX6_notes cX6_notes 3 none [vr 214, vi x1, vi x2] E.2.2.1 E.2.2.2.1 E.2.2.2.2 V 0 0 (QV E.2.2.1 E.2.2.2.1 E.2.2.2.2 k)
def w6_factOf (E : eT) (Q : Int32 → vT → Prop) (pc : Nat) (ls : List (Option aV)) (st : List aV) (V : vT) : Prop := wp E.1 E.2.1 (rmQ 0 0 0) "InsuredFlameModel" "factOf" cX6_factOf 1 (some .int) (Zm E.2.1 0 0 (QI E.2.2.1 E.2.2.2.1 E.2.2.2.2 Q)) pc ls st E.2.2.1 E.2.2.2.1 E.2.2.2.2 V 0 0
def c6_factOf (E : eT) (x1 : Int32) (V : vT) (k : Int32 → vT → Prop) : Prop := MOk E.1 E.2.1 0 yX6_factOf cX6_factOf 1 (some .int) [vi x1] E.2.2.1 E.2.2.2.1 E.2.2.2.2 V 0 0 (QI E.2.2.1 E.2.2.2.1 E.2.2.2.2 k)
def w6_sumSign (E : eT) (Q : Int32 → vT → Prop) (pc : Nat) (ls : List (Option aV)) (st : List aV) (V : vT) : Prop := wp E.1 E.2.1 (rmQ 0 0 0) "InsuredFlameModel" "sumSign" cX6_sumSign 1 (some .int) (Zm E.2.1 0 0 (QI E.2.2.1 E.2.2.2.1 E.2.2.2.2 Q)) pc ls st E.2.2.1 E.2.2.2.1 E.2.2.2.2 V 0 0
def c6_sumSign (E : eT) (x1 : Int32) (V : vT) (k : Int32 → vT → Prop) : Prop := MOk E.1 E.2.1 0 yX6_sumSign cX6_sumSign 1 (some .int) [vi x1] E.2.2.1 E.2.2.2.1 E.2.2.2.2 V 0 0 (QI E.2.2.1 E.2.2.2.1 E.2.2.2.2 k)
def w6_closesSums (E : eT) (Q : vT → Prop) (pc : Nat) (ls : List (Option aV)) (st : List aV) (V : vT) : Prop := wp E.1 E.2.1 (rmQ 1 0 0) "InsuredFlameModel" "closesSums" cX6_closesSums 2 none (Zm E.2.1 0 0 (QV E.2.2.1 E.2.2.2.1 E.2.2.2.2 Q)) pc ls st E.2.2.1 E.2.2.2.1 E.2.2.2.2 V 0 0
def c6_closesSums (E : eT) (x1 : Int32) (V : vT) (k : vT → Prop) : Prop := MOk E.1 E.2.1 1 yX6_closesSums cX6_closesSums 2 none [vr 214, vi x1] E.2.2.1 E.2.2.2.1 E.2.2.2.2 V 0 0 (QV E.2.2.1 E.2.2.2.1 E.2.2.2.2 k)
def w6_waitTop (E : eT) (Q : Int32 → vT → Prop) (pc : Nat) (ls : List (Option aV)) (st : List aV) (V : vT) : Prop := wp E.1 E.2.1 (rmQ 0 0 0) "InsuredFlameModel" "waitTop" cX6_waitTop 1 (some .int) (Zm E.2.1 0 0 (QI E.2.2.1 E.2.2.2.1 E.2.2.2.2 Q)) pc ls st E.2.2.1 E.2.2.2.1 E.2.2.2.2 V 0 0
def c6_waitTop (E : eT)  (V : vT) (k : Int32 → vT → Prop) : Prop := MOk E.1 E.2.1 0 yX6_waitTop cX6_waitTop 1 (some .int) [vr 214] E.2.2.1 E.2.2.2.1 E.2.2.2.2 V 0 0 (QI E.2.2.1 E.2.2.2.1 E.2.2.2.2 k)
def w6_hasOpenSum (E : eT) (Q : Int32 → vT → Prop) (pc : Nat) (ls : List (Option aV)) (st : List aV) (V : vT) : Prop := wp E.1 E.2.1 (rmQ 0 0 0) "InsuredFlameModel" "hasOpenSum" cX6_hasOpenSum 3 (some .boolean) (Zm E.2.1 0 0 (QI E.2.2.1 E.2.2.2.1 E.2.2.2.2 Q)) pc ls st E.2.2.1 E.2.2.2.1 E.2.2.2.2 V 0 0
def c6_hasOpenSum (E : eT) (x1 : Int32) (V : vT) (k : Int32 → vT → Prop) : Prop := MOk E.1 E.2.1 0 yX6_hasOpenSum cX6_hasOpenSum 3 (some .boolean) [vr 214, vi x1] E.2.2.1 E.2.2.2.1 E.2.2.2.2 V 0 0 (QI E.2.2.1 E.2.2.2.1 E.2.2.2.2 k)
def w6_readsCondition (E : eT) (Q : Int32 → vT → Prop) (pc : Nat) (ls : List (Option aV)) (st : List aV) (V : vT) : Prop := wp E.1 E.2.1 (rmQ 6 0 0) "InsuredFlameModel" "readsCondition" cX6_readsCondition 1 (some .boolean) (Zm E.2.1 0 0 (QI E.2.2.1 E.2.2.2.1 E.2.2.2.2 Q)) pc ls st E.2.2.1 E.2.2.2.1 E.2.2.2.2 V 0 0
def c6_readsCondition (E : eT)  (V : vT) (k : Int32 → vT → Prop) : Prop := MOk E.1 E.2.1 6 yX6_readsCondition cX6_readsCondition 1 (some .boolean) [vr 214] E.2.2.1 E.2.2.2.1 E.2.2.2.2 V 0 0 (QI E.2.2.1 E.2.2.2.1 E.2.2.2.2 k)
def w6_readsCompared (E : eT) (Q : Int32 → vT → Prop) (pc : Nat) (ls : List (Option aV)) (st : List aV) (V : vT) : Prop := wp E.1 E.2.1 (rmQ 5 0 0) "InsuredFlameModel" "readsCompared" cX6_readsCompared 2 (some .boolean) (Zm E.2.1 0 0 (QI E.2.2.1 E.2.2.2.1 E.2.2.2.2 Q)) pc ls st E.2.2.1 E.2.2.2.1 E.2.2.2.2 V 0 0
def c6_readsCompared (E : eT)  (V : vT) (k : Int32 → vT → Prop) : Prop := MOk E.1 E.2.1 5 yX6_readsCompared cX6_readsCompared 2 (some .boolean) [vr 214] E.2.2.1 E.2.2.2.1 E.2.2.2.2 V 0 0 (QI E.2.2.1 E.2.2.2.1 E.2.2.2.2 k)
def w6_endsPiece (E : eT) (Q : vT → Prop) (pc : Nat) (ls : List (Option aV)) (st : List aV) (V : vT) : Prop := wp E.1 E.2.1 (rmQ 1 0 0) "InsuredFlameModel" "endsPiece" cX6_endsPiece 1 none (Zm E.2.1 0 0 (QV E.2.2.1 E.2.2.2.1 E.2.2.2.2 Q)) pc ls st E.2.2.1 E.2.2.2.1 E.2.2.2.2 V 0 0
def c6_endsPiece (E : eT)  (V : vT) (k : vT → Prop) : Prop := MOk E.1 E.2.1 1 yX6_endsPiece cX6_endsPiece 1 none [vr 214] E.2.2.1 E.2.2.2.1 E.2.2.2.2 V 0 0 (QV E.2.2.1 E.2.2.2.1 E.2.2.2.2 k)
def w6_lands (E : eT) (Q : vT → Prop) (pc : Nat) (ls : List (Option aV)) (st : List aV) (V : vT) : Prop := wp E.1 E.2.1 (rmQ 1 0 0) "InsuredFlameModel" "lands" cX6_lands 3 none (Zm E.2.1 0 0 (QV E.2.2.1 E.2.2.2.1 E.2.2.2.2 Q)) pc ls st E.2.2.1 E.2.2.2.1 E.2.2.2.2 V 0 0
def c6_lands (E : eT) (x1 : Int32) (V : vT) (k : vT → Prop) : Prop := MOk E.1 E.2.1 1 yX6_lands cX6_lands 3 none [vr 214, vi x1] E.2.2.1 E.2.2.2.1 E.2.2.2.2 V 0 0 (QV E.2.2.1 E.2.2.2.1 E.2.2.2.2 k)
def w6_jumps (E : eT) (Q : vT → Prop) (pc : Nat) (ls : List (Option aV)) (st : List aV) (V : vT) : Prop := wp E.1 E.2.1 (rmQ 1 0 0) "InsuredFlameModel" "jumps" cX6_jumps 2 none (Zm E.2.1 0 0 (QV E.2.2.1 E.2.2.2.1 E.2.2.2.2 Q)) pc ls st E.2.2.1 E.2.2.2.1 E.2.2.2.2 V 0 0
def c6_jumps (E : eT) (x1 : Int32) (V : vT) (k : vT → Prop) : Prop := MOk E.1 E.2.1 1 yX6_jumps cX6_jumps 2 none [vr 214, vi x1] E.2.2.1 E.2.2.2.1 E.2.2.2.2 V 0 0 (QV E.2.2.1 E.2.2.2.1 E.2.2.2.2 k)
def w6_takes (E : eT) (Q : Int32 → vT → Prop) (pc : Nat) (ls : List (Option aV)) (st : List aV) (V : vT) : Prop := wp E.1 E.2.1 (rmQ 1 0 0) "InsuredFlameModel" "takes" cX6_takes 2 (some .boolean) (Zm E.2.1 0 0 (QI E.2.2.1 E.2.2.2.1 E.2.2.2.2 Q)) pc ls st E.2.2.1 E.2.2.2.1 E.2.2.2.2 V 0 0
def c6_takes (E : eT) (x1 : Int32) (V : vT) (k : Int32 → vT → Prop) : Prop := MOk E.1 E.2.1 1 yX6_takes cX6_takes 2 (some .boolean) [vr 214, vi x1] E.2.2.1 E.2.2.2.1 E.2.2.2.2 V 0 0 (QI E.2.2.1 E.2.2.2.1 E.2.2.2.2 k)
def w6_town (E : eT) (Q : Int32 → vT → Prop) (pc : Nat) (ls : List (Option aV)) (st : List aV) (V : vT) : Prop := wp E.1 E.2.1 (rmQ 3 0 0) "InsuredFlameModel" "town" cX6_town 6 (some .int) (Zm E.2.1 0 0 (QI E.2.2.1 E.2.2.2.1 E.2.2.2.2 Q)) pc ls st E.2.2.1 E.2.2.2.1 E.2.2.2.2 V 0 0
def c6_town (E : eT) (x1 : Int32) (V : vT) (k : Int32 → vT → Prop) : Prop := MOk E.1 E.2.1 3 yX6_town cX6_town 6 (some .int) [vr 214, vi x1] E.2.2.1 E.2.2.2.1 E.2.2.2.2 V 0 0 (QI E.2.2.1 E.2.2.2.1 E.2.2.2.2 k)
def w6_readsRow (E : eT) (Q : Int32 → vT → Prop) (pc : Nat) (ls : List (Option aV)) (st : List aV) (V : vT) : Prop := wp E.1 E.2.1 (rmQ 2 0 0) "InsuredFlameModel" "readsRow" cX6_readsRow 8 (some .boolean) (Zm E.2.1 0 0 (QI E.2.2.1 E.2.2.2.1 E.2.2.2.2 Q)) pc ls st E.2.2.1 E.2.2.2.1 E.2.2.2.2 V 0 0
def c6_readsRow (E : eT) (x1 : Int32) (V : vT) (k : Int32 → vT → Prop) : Prop := MOk E.1 E.2.1 2 yX6_readsRow cX6_readsRow 8 (some .boolean) [vr 214, vi x1] E.2.2.1 E.2.2.2.1 E.2.2.2.2 V 0 0 (QI E.2.2.1 E.2.2.2.1 E.2.2.2.2 k)
def w6_canBeginRow (E : eT) (Q : Int32 → vT → Prop) (pc : Nat) (ls : List (Option aV)) (st : List aV) (V : vT) : Prop := wp E.1 E.2.1 (rmQ 1 0 0) "InsuredFlameModel" "canBeginRow" cX6_canBeginRow 1 (some .boolean) (Zm E.2.1 0 0 (QI E.2.2.1 E.2.2.2.1 E.2.2.2.2 Q)) pc ls st E.2.2.1 E.2.2.2.1 E.2.2.2.2 V 0 0
def c6_canBeginRow (E : eT)  (V : vT) (k : Int32 → vT → Prop) : Prop := MOk E.1 E.2.1 1 yX6_canBeginRow cX6_canBeginRow 1 (some .boolean) [vr 214] E.2.2.1 E.2.2.2.1 E.2.2.2.2 V 0 0 (QI E.2.2.1 E.2.2.2.1 E.2.2.2.2 k)
def w6_kindBy (E : eT) (Q : Int32 → vT → Prop) (pc : Nat) (ls : List (Option aV)) (st : List aV) (V : vT) : Prop := wp E.1 E.2.1 (rmQ 0 0 0) "InsuredFlameModel" "kindBy" cX6_kindBy 1 (some .int) (Zm E.2.1 0 0 (QI E.2.2.1 E.2.2.2.1 E.2.2.2.2 Q)) pc ls st E.2.2.1 E.2.2.2.1 E.2.2.2.2 V 0 0
def c6_kindBy (E : eT) (x1 : Int32) (V : vT) (k : Int32 → vT → Prop) : Prop := MOk E.1 E.2.1 0 yX6_kindBy cX6_kindBy 1 (some .int) [vi x1] E.2.2.1 E.2.2.2.1 E.2.2.2.2 V 0 0 (QI E.2.2.1 E.2.2.2.1 E.2.2.2.2 k)
def w6_becomesWhole (E : eT) (Q : vT → Prop) (pc : Nat) (ls : List (Option aV)) (st : List aV) (V : vT) : Prop := wp E.1 E.2.1 (rmQ 0 0 0) "InsuredFlameModel" "becomesWhole" cX6_becomesWhole 2 none (Zm E.2.1 0 0 (QV E.2.2.1 E.2.2.2.1 E.2.2.2.2 Q)) pc ls st E.2.2.1 E.2.2.2.1 E.2.2.2.2 V 0 0
def c6_becomesWhole (E : eT) (x1 : Int32) (V : vT) (k : vT → Prop) : Prop := MOk E.1 E.2.1 0 yX6_becomesWhole cX6_becomesWhole 2 none [vr 214, vi x1] E.2.2.1 E.2.2.2.1 E.2.2.2.2 V 0 0 (QV E.2.2.1 E.2.2.2.1 E.2.2.2.2 k)
def w6_isWood (E : eT) (Q : Int32 → vT → Prop) (pc : Nat) (ls : List (Option aV)) (st : List aV) (V : vT) : Prop := wp E.1 E.2.1 (rmQ 2 0 0) "InsuredFlameModel" "isWood" cX6_isWood 2 (some .boolean) (Zm E.2.1 0 0 (QI E.2.2.1 E.2.2.2.1 E.2.2.2.2 Q)) pc ls st E.2.2.1 E.2.2.2.1 E.2.2.2.2 V 0 0
def c6_isWood (E : eT) (x1 : Int32) (V : vT) (k : Int32 → vT → Prop) : Prop := MOk E.1 E.2.1 2 yX6_isWood cX6_isWood 2 (some .boolean) [vr 214, vi x1] E.2.2.1 E.2.2.2.1 E.2.2.2.2 V 0 0 (QI E.2.2.1 E.2.2.2.1 E.2.2.2.2 k)
def w6_isPlace (E : eT) (Q : Int32 → vT → Prop) (pc : Nat) (ls : List (Option aV)) (st : List aV) (V : vT) : Prop := wp E.1 E.2.1 (rmQ 1 0 0) "InsuredFlameModel" "isPlace" cX6_isPlace 1 (some .boolean) (Zm E.2.1 0 0 (QI E.2.2.1 E.2.2.2.1 E.2.2.2.2 Q)) pc ls st E.2.2.1 E.2.2.2.1 E.2.2.2.2 V 0 0
def c6_isPlace (E : eT) (x1 : Int32) (V : vT) (k : Int32 → vT → Prop) : Prop := MOk E.1 E.2.1 1 yX6_isPlace cX6_isPlace 1 (some .boolean) [vi x1] E.2.2.1 E.2.2.2.1 E.2.2.2.2 V 0 0 (QI E.2.2.1 E.2.2.2.1 E.2.2.2.2 k)
def w6_orders (E : eT) (Q : Int32 → vT → Prop) (pc : Nat) (ls : List (Option aV)) (st : List aV) (V : vT) : Prop := wp E.1 E.2.1 (rmQ 6 0 0) "InsuredFlameModel" "orders" cX6_orders 4 (some .int) (Zm E.2.1 0 0 (QI E.2.2.1 E.2.2.2.1 E.2.2.2.2 Q)) pc ls st E.2.2.1 E.2.2.2.1 E.2.2.2.2 V 0 0
def c6_orders (E : eT) (x1 : Int32) (V : vT) (k : Int32 → vT → Prop) : Prop := MOk E.1 E.2.1 6 yX6_orders cX6_orders 4 (some .int) [vr 214, vi x1] E.2.2.1 E.2.2.2.1 E.2.2.2.2 V 0 0 (QI E.2.2.1 E.2.2.2.1 E.2.2.2.2 k)
def w6_copies (E : eT) (Q : vT → Prop) (pc : Nat) (ls : List (Option aV)) (st : List aV) (V : vT) : Prop := wp E.1 E.2.1 (rmQ 0 0 0) "InsuredFlameModel" "copies" cX6_copies 3 none (Zm E.2.1 0 0 (QV E.2.2.1 E.2.2.2.1 E.2.2.2.2 Q)) pc ls st E.2.2.1 E.2.2.2.1 E.2.2.2.2 V 0 0
def c6_copies (E : eT) (a1 : Nat) (a2 : Nat) (V : vT) (k : vT → Prop) : Prop := MOk E.1 E.2.1 0 yX6_copies cX6_copies 3 none [vr a1, vr a2] E.2.2.1 E.2.2.2.1 E.2.2.2.2 V 0 0 (QV E.2.2.1 E.2.2.2.1 E.2.2.2.2 k)
def w6_readsLine (E : eT) (Q : Int32 → vT → Prop) (pc : Nat) (ls : List (Option aV)) (st : List aV) (V : vT) : Prop := wp E.1 E.2.1 (rmQ 5 0 0) "InsuredFlameModel" "readsLine" cX6_readsLine 2 (some .boolean) (Zm E.2.1 0 0 (QI E.2.2.1 E.2.2.2.1 E.2.2.2.2 Q)) pc ls st E.2.2.1 E.2.2.2.1 E.2.2.2.2 V 0 0
def c6_readsLine (E : eT)  (V : vT) (k : Int32 → vT → Prop) : Prop := MOk E.1 E.2.1 5 yX6_readsLine cX6_readsLine 2 (some .boolean) [vr 214] E.2.2.1 E.2.2.2.1 E.2.2.2.2 V 0 0 (QI E.2.2.1 E.2.2.2.1 E.2.2.2.2 k)
def w6_readsThing (E : eT) (Q : Int32 → vT → Prop) (pc : Nat) (ls : List (Option aV)) (st : List aV) (V : vT) : Prop := wp E.1 E.2.1 (rmQ 4 0 0) "InsuredFlameModel" "readsThing" cX6_readsThing 4 (some .boolean) (Zm E.2.1 0 0 (QI E.2.2.1 E.2.2.2.1 E.2.2.2.2 Q)) pc ls st E.2.2.1 E.2.2.2.1 E.2.2.2.2 V 0 0
def c6_readsThing (E : eT)  (V : vT) (k : Int32 → vT → Prop) : Prop := MOk E.1 E.2.1 4 yX6_readsThing cX6_readsThing 4 (some .boolean) [vr 214] E.2.2.1 E.2.2.2.1 E.2.2.2.2 V 0 0 (QI E.2.2.1 E.2.2.2.1 E.2.2.2.2 k)
def w6_readsWithin (E : eT) (Q : Int32 → vT → Prop) (pc : Nat) (ls : List (Option aV)) (st : List aV) (V : vT) : Prop := wp E.1 E.2.1 (rmQ 2 0 0) "InsuredFlameModel" "readsWithin" cX6_readsWithin 3 (some .boolean) (Zm E.2.1 0 0 (QI E.2.2.1 E.2.2.2.1 E.2.2.2.2 Q)) pc ls st E.2.2.1 E.2.2.2.1 E.2.2.2.2 V 0 0
def c6_readsWithin (E : eT) (x1 : Int32) (V : vT) (k : Int32 → vT → Prop) : Prop := MOk E.1 E.2.1 2 yX6_readsWithin cX6_readsWithin 3 (some .boolean) [vr 214, vi x1] E.2.2.1 E.2.2.2.1 E.2.2.2.2 V 0 0 (QI E.2.2.1 E.2.2.2.1 E.2.2.2.2 k)
def w6_isThing (E : eT) (Q : Int32 → vT → Prop) (pc : Nat) (ls : List (Option aV)) (st : List aV) (V : vT) : Prop := wp E.1 E.2.1 (rmQ 1 0 0) "InsuredFlameModel" "isThing" cX6_isThing 2 (some .boolean) (Zm E.2.1 0 0 (QI E.2.2.1 E.2.2.2.1 E.2.2.2.2 Q)) pc ls st E.2.2.1 E.2.2.2.1 E.2.2.2.2 V 0 0
def c6_isThing (E : eT) (x1 : Int32) (V : vT) (k : Int32 → vT → Prop) : Prop := MOk E.1 E.2.1 1 yX6_isThing cX6_isThing 2 (some .boolean) [vr 214, vi x1] E.2.2.1 E.2.2.2.1 E.2.2.2.2 V 0 0 (QI E.2.2.1 E.2.2.2.1 E.2.2.2.2 k)
def w6_readsSpot (E : eT) (Q : Int32 → vT → Prop) (pc : Nat) (ls : List (Option aV)) (st : List aV) (V : vT) : Prop := wp E.1 E.2.1 (rmQ 3 0 0) "InsuredFlameModel" "readsSpot" cX6_readsSpot 2 (some .boolean) (Zm E.2.1 0 0 (QI E.2.2.1 E.2.2.2.1 E.2.2.2.2 Q)) pc ls st E.2.2.1 E.2.2.2.1 E.2.2.2.2 V 0 0
def c6_readsSpot (E : eT)  (V : vT) (k : Int32 → vT → Prop) : Prop := MOk E.1 E.2.1 3 yX6_readsSpot cX6_readsSpot 2 (some .boolean) [vr 214] E.2.2.1 E.2.2.2.1 E.2.2.2.2 V 0 0 (QI E.2.2.1 E.2.2.2.1 E.2.2.2.2 k)
def w6_readsFire (E : eT) (Q : Int32 → vT → Prop) (pc : Nat) (ls : List (Option aV)) (st : List aV) (V : vT) : Prop := wp E.1 E.2.1 (rmQ 4 0 0) "InsuredFlameModel" "readsFire" cX6_readsFire 1 (some .boolean) (Zm E.2.1 0 0 (QI E.2.2.1 E.2.2.2.1 E.2.2.2.2 Q)) pc ls st E.2.2.1 E.2.2.2.1 E.2.2.2.2 V 0 0
def c6_readsFire (E : eT)  (V : vT) (k : Int32 → vT → Prop) : Prop := MOk E.1 E.2.1 4 yX6_readsFire cX6_readsFire 1 (some .boolean) [vr 214] E.2.2.1 E.2.2.2.1 E.2.2.2.2 V 0 0 (QI E.2.2.1 E.2.2.2.1 E.2.2.2.2 k)
def w6_readsWater (E : eT) (Q : Int32 → vT → Prop) (pc : Nat) (ls : List (Option aV)) (st : List aV) (V : vT) : Prop := wp E.1 E.2.1 (rmQ 4 0 0) "InsuredFlameModel" "readsWater" cX6_readsWater 1 (some .boolean) (Zm E.2.1 0 0 (QI E.2.2.1 E.2.2.2.1 E.2.2.2.2 Q)) pc ls st E.2.2.1 E.2.2.2.1 E.2.2.2.2 V 0 0
def c6_readsWater (E : eT)  (V : vT) (k : Int32 → vT → Prop) : Prop := MOk E.1 E.2.1 4 yX6_readsWater cX6_readsWater 1 (some .boolean) [vr 214] E.2.2.1 E.2.2.2.1 E.2.2.2.2 V 0 0 (QI E.2.2.1 E.2.2.2.1 E.2.2.2.2 k)
def w6_readsWind (E : eT) (Q : Int32 → vT → Prop) (pc : Nat) (ls : List (Option aV)) (st : List aV) (V : vT) : Prop := wp E.1 E.2.1 (rmQ 1 0 0) "InsuredFlameModel" "readsWind" cX6_readsWind 1 (some .boolean) (Zm E.2.1 0 0 (QI E.2.2.1 E.2.2.2.1 E.2.2.2.2 Q)) pc ls st E.2.2.1 E.2.2.2.1 E.2.2.2.2 V 0 0
def c6_readsWind (E : eT)  (V : vT) (k : Int32 → vT → Prop) : Prop := MOk E.1 E.2.1 1 yX6_readsWind cX6_readsWind 1 (some .boolean) [vr 214] E.2.2.1 E.2.2.2.1 E.2.2.2.2 V 0 0 (QI E.2.2.1 E.2.2.2.1 E.2.2.2.2 k)
def w6_minutes (E : eT) (Q : Int32 → vT → Prop) (pc : Nat) (ls : List (Option aV)) (st : List aV) (V : vT) : Prop := wp E.1 E.2.1 (rmQ 9 0 0) "InsuredFlameModel" "minutes" cX6_minutes 2 (some .int) (Zm E.2.1 0 0 (QI E.2.2.1 E.2.2.2.1 E.2.2.2.2 Q)) pc ls st E.2.2.1 E.2.2.2.1 E.2.2.2.2 V 0 0
def c6_minutes (E : eT) (x1 : Int32) (V : vT) (k : Int32 → vT → Prop) : Prop := MOk E.1 E.2.1 9 yX6_minutes cX6_minutes 2 (some .int) [vr 214, vi x1] E.2.2.1 E.2.2.2.1 E.2.2.2.2 V 0 0 (QI E.2.2.1 E.2.2.2.1 E.2.2.2.2 k)
def w6_minutesGo (E : eT) (Q : vT → Prop) (pc : Nat) (ls : List (Option aV)) (st : List aV) (V : vT) : Prop := wp E.1 E.2.1 (rmQ 8 0 0) "InsuredFlameModel" "minutesGo" cX6_minutesGo 3 none (Zm E.2.1 0 0 (QV E.2.2.1 E.2.2.2.1 E.2.2.2.2 Q)) pc ls st E.2.2.1 E.2.2.2.1 E.2.2.2.2 V 0 0
def c6_minutesGo (E : eT) (x1 : Int32) (V : vT) (k : vT → Prop) : Prop := MOk E.1 E.2.1 8 yX6_minutesGo cX6_minutesGo 3 none [vr 214, vi x1] E.2.2.1 E.2.2.2.1 E.2.2.2.2 V 0 0 (QV E.2.2.1 E.2.2.2.1 E.2.2.2.2 k)
def w6_minuteGoes (E : eT) (Q : vT → Prop) (pc : Nat) (ls : List (Option aV)) (st : List aV) (V : vT) : Prop := wp E.1 E.2.1 (rmQ 7 0 0) "InsuredFlameModel" "minuteGoes" cX6_minuteGoes 2 none (Zm E.2.1 0 0 (QV E.2.2.1 E.2.2.2.1 E.2.2.2.2 Q)) pc ls st E.2.2.1 E.2.2.2.1 E.2.2.2.2 V 0 0
def c6_minuteGoes (E : eT)  (V : vT) (k : vT → Prop) : Prop := MOk E.1 E.2.1 7 yX6_minuteGoes cX6_minuteGoes 2 none [vr 214] E.2.2.1 E.2.2.2.1 E.2.2.2.2 V 0 0 (QV E.2.2.1 E.2.2.2.1 E.2.2.2.2 k)
def w6_turnOf (E : eT) (Q : vT → Prop) (pc : Nat) (ls : List (Option aV)) (st : List aV) (V : vT) : Prop := wp E.1 E.2.1 (rmQ 6 0 0) "InsuredFlameModel" "turnOf" cX6_turnOf 3 none (Zm E.2.1 0 0 (QV E.2.2.1 E.2.2.2.1 E.2.2.2.2 Q)) pc ls st E.2.2.1 E.2.2.2.1 E.2.2.2.2 V 0 0
def c6_turnOf (E : eT) (x1 : Int32) (V : vT) (k : vT → Prop) : Prop := MOk E.1 E.2.1 6 yX6_turnOf cX6_turnOf 3 none [vr 214, vi x1] E.2.2.1 E.2.2.2.1 E.2.2.2.2 V 0 0 (QV E.2.2.1 E.2.2.2.1 E.2.2.2.2 k)
def w6_takesThings (E : eT) (Q : vT → Prop) (pc : Nat) (ls : List (Option aV)) (st : List aV) (V : vT) : Prop := wp E.1 E.2.1 (rmQ 3 0 0) "InsuredFlameModel" "takesThings" cX6_takesThings 3 none (Zm E.2.1 0 0 (QV E.2.2.1 E.2.2.2.1 E.2.2.2.2 Q)) pc ls st E.2.2.1 E.2.2.2.1 E.2.2.2.2 V 0 0
def c6_takesThings (E : eT) (x1 : Int32) (V : vT) (k : vT → Prop) : Prop := MOk E.1 E.2.1 3 yX6_takesThings cX6_takesThings 3 none [vr 214, vi x1] E.2.2.1 E.2.2.2.1 E.2.2.2.2 V 0 0 (QV E.2.2.1 E.2.2.2.1 E.2.2.2.2 k)
def w6_liesAt (E : eT) (Q : Int32 → vT → Prop) (pc : Nat) (ls : List (Option aV)) (st : List aV) (V : vT) : Prop := wp E.1 E.2.1 (rmQ 2 0 0) "InsuredFlameModel" "liesAt" cX6_liesAt 3 (some .boolean) (Zm E.2.1 0 0 (QI E.2.2.1 E.2.2.2.1 E.2.2.2.2 Q)) pc ls st E.2.2.1 E.2.2.2.1 E.2.2.2.2 V 0 0
def c6_liesAt (E : eT) (x1 : Int32) (x2 : Int32) (V : vT) (k : Int32 → vT → Prop) : Prop := MOk E.1 E.2.1 2 yX6_liesAt cX6_liesAt 3 (some .boolean) [vr 214, vi x1, vi x2] E.2.2.1 E.2.2.2.1 E.2.2.2.2 V 0 0 (QI E.2.2.1 E.2.2.2.1 E.2.2.2.2 k)
def w6_goesOver (E : eT) (Q : vT → Prop) (pc : Nat) (ls : List (Option aV)) (st : List aV) (V : vT) : Prop := wp E.1 E.2.1 (rmQ 5 0 0) "InsuredFlameModel" "goesOver" cX6_goesOver 5 none (Zm E.2.1 0 0 (QV E.2.2.1 E.2.2.2.1 E.2.2.2.2 Q)) pc ls st E.2.2.1 E.2.2.2.1 E.2.2.2.2 V 0 0
def c6_goesOver (E : eT) (x1 : Int32) (x2 : Int32) (V : vT) (k : vT → Prop) : Prop := MOk E.1 E.2.1 5 yX6_goesOver cX6_goesOver 5 none [vr 214, vi x1, vi x2] E.2.2.1 E.2.2.2.1 E.2.2.2.2 V 0 0 (QV E.2.2.1 E.2.2.2.1 E.2.2.2.2 k)
def w6_beside (E : eT) (Q : Int32 → vT → Prop) (pc : Nat) (ls : List (Option aV)) (st : List aV) (V : vT) : Prop := wp E.1 E.2.1 (rmQ 2 0 0) "InsuredFlameModel" "beside" cX6_beside 4 (some .int) (Zm E.2.1 0 0 (QI E.2.2.1 E.2.2.2.1 E.2.2.2.2 Q)) pc ls st E.2.2.1 E.2.2.2.1 E.2.2.2.2 V 0 0
def c6_beside (E : eT) (x1 : Int32) (x2 : Int32) (V : vT) (k : Int32 → vT → Prop) : Prop := MOk E.1 E.2.1 2 yX6_beside cX6_beside 4 (some .int) [vi x1, vi x2] E.2.2.1 E.2.2.2.1 E.2.2.2.2 V 0 0 (QI E.2.2.1 E.2.2.2.1 E.2.2.2.2 k)
def w6_isSpot (E : eT) (Q : Int32 → vT → Prop) (pc : Nat) (ls : List (Option aV)) (st : List aV) (V : vT) : Prop := wp E.1 E.2.1 (rmQ 1 0 0) "InsuredFlameModel" "isSpot" cX6_isSpot 2 (some .boolean) (Zm E.2.1 0 0 (QI E.2.2.1 E.2.2.2.1 E.2.2.2.2 Q)) pc ls st E.2.2.1 E.2.2.2.1 E.2.2.2.2 V 0 0
def c6_isSpot (E : eT) (x1 : Int32) (x2 : Int32) (V : vT) (k : Int32 → vT → Prop) : Prop := MOk E.1 E.2.1 1 yX6_isSpot cX6_isSpot 2 (some .boolean) [vi x1, vi x2] E.2.2.1 E.2.2.2.1 E.2.2.2.2 V 0 0 (QI E.2.2.1 E.2.2.2.1 E.2.2.2.2 k)
def w6_feels (E : eT) (Q : vT → Prop) (pc : Nat) (ls : List (Option aV)) (st : List aV) (V : vT) : Prop := wp E.1 E.2.1 (rmQ 4 0 0) "InsuredFlameModel" "feels" cX6_feels 5 none (Zm E.2.1 0 0 (QV E.2.2.1 E.2.2.2.1 E.2.2.2.2 Q)) pc ls st E.2.2.1 E.2.2.2.1 E.2.2.2.2 V 0 0
def c6_feels (E : eT) (x1 : Int32) (x2 : Int32) (x3 : Int32) (x4 : Int32) (V : vT) (k : vT → Prop) : Prop := MOk E.1 E.2.1 4 yX6_feels cX6_feels 5 none [vr 214, vi x1, vi x2, vi x3, vi x4] E.2.2.1 E.2.2.2.1 E.2.2.2.2 V 0 0 (QV E.2.2.1 E.2.2.2.1 E.2.2.2.2 k)
def w6_burnNextTo (E : eT) (Q : Int32 → vT → Prop) (pc : Nat) (ls : List (Option aV)) (st : List aV) (V : vT) : Prop := wp E.1 E.2.1 (rmQ 3 0 0) "InsuredFlameModel" "burnNextTo" cX6_burnNextTo 4 (some .int) (Zm E.2.1 0 0 (QI E.2.2.1 E.2.2.2.1 E.2.2.2.2 Q)) pc ls st E.2.2.1 E.2.2.2.1 E.2.2.2.2 V 0 0
def c6_burnNextTo (E : eT) (x1 : Int32) (V : vT) (k : Int32 → vT → Prop) : Prop := MOk E.1 E.2.1 3 yX6_burnNextTo cX6_burnNextTo 4 (some .int) [vr 214, vi x1] E.2.2.1 E.2.2.2.1 E.2.2.2.2 V 0 0 (QI E.2.2.1 E.2.2.2.1 E.2.2.2.2 k)
def w6_valuesAt (E : eT) (Q : Int32 → vT → Prop) (pc : Nat) (ls : List (Option aV)) (st : List aV) (V : vT) : Prop := wp E.1 E.2.1 (rmQ 3 0 0) "InsuredFlameModel" "valuesAt" cX6_valuesAt 4 (some .int) (Zm E.2.1 0 0 (QI E.2.2.1 E.2.2.2.1 E.2.2.2.2 Q)) pc ls st E.2.2.1 E.2.2.2.1 E.2.2.2.2 V 0 0
def c6_valuesAt (E : eT) (x1 : Int32) (V : vT) (k : Int32 → vT → Prop) : Prop := MOk E.1 E.2.1 3 yX6_valuesAt cX6_valuesAt 4 (some .int) [vr 214, vi x1] E.2.2.1 E.2.2.2.1 E.2.2.2.2 V 0 0 (QI E.2.2.1 E.2.2.2.1 E.2.2.2.2 k)
def w6_sumsAt (E : eT) (Q : Int32 → vT → Prop) (pc : Nat) (ls : List (Option aV)) (st : List aV) (V : vT) : Prop := wp E.1 E.2.1 (rmQ 3 0 0) "InsuredFlameModel" "sumsAt" cX6_sumsAt 4 (some .int) (Zm E.2.1 0 0 (QI E.2.2.1 E.2.2.2.1 E.2.2.2.2 Q)) pc ls st E.2.2.1 E.2.2.2.1 E.2.2.2.2 V 0 0
def c6_sumsAt (E : eT) (x1 : Int32) (V : vT) (k : Int32 → vT → Prop) : Prop := MOk E.1 E.2.1 3 yX6_sumsAt cX6_sumsAt 4 (some .int) [vr 214, vi x1] E.2.2.1 E.2.2.2.1 E.2.2.2.2 V 0 0 (QI E.2.2.1 E.2.2.2.1 E.2.2.2.2 k)
def w6_byLaw (E : eT) (Q : Int32 → vT → Prop) (pc : Nat) (ls : List (Option aV)) (st : List aV) (V : vT) : Prop := wp E.1 E.2.1 (rmQ 2 0 0) "InsuredFlameModel" "byLaw" cX6_byLaw 6 (some .int) (Zm E.2.1 0 0 (QI E.2.2.1 E.2.2.2.1 E.2.2.2.2 Q)) pc ls st E.2.2.1 E.2.2.2.1 E.2.2.2.2 V 0 0
def c6_byLaw (E : eT) (x1 : Int32) (x2 : Int32) (x3 : Int32) (V : vT) (k : Int32 → vT → Prop) : Prop := MOk E.1 E.2.1 2 yX6_byLaw cX6_byLaw 6 (some .int) [vr 214, vi x1, vi x2, vi x3] E.2.2.1 E.2.2.2.1 E.2.2.2.2 V 0 0 (QI E.2.2.1 E.2.2.2.1 E.2.2.2.2 k)
def w6_reckonsTo (E : eT) (Q : Int32 → vT → Prop) (pc : Nat) (ls : List (Option aV)) (st : List aV) (V : vT) : Prop := wp E.1 E.2.1 (rmQ 1 0 0) "InsuredFlameModel" "reckonsTo" cX6_reckonsTo 8 (some .int) (Zm E.2.1 0 0 (QI E.2.2.1 E.2.2.2.1 E.2.2.2.2 Q)) pc ls st E.2.2.1 E.2.2.2.1 E.2.2.2.2 V 0 0
def c6_reckonsTo (E : eT) (x1 : Int32) (x2 : Int32) (V : vT) (k : Int32 → vT → Prop) : Prop := MOk E.1 E.2.1 1 yX6_reckonsTo cX6_reckonsTo 8 (some .int) [vr 214, vi x1, vi x2] E.2.2.1 E.2.2.2.1 E.2.2.2.2 V 0 0 (QI E.2.2.1 E.2.2.2.1 E.2.2.2.2 k)
def w6_reckon (E : eT) (Q : Int32 → vT → Prop) (pc : Nat) (ls : List (Option aV)) (st : List aV) (V : vT) : Prop := wp E.1 E.2.1 (rmQ 0 0 0) "InsuredFlameModel" "reckon" cX6_reckon 3 (some .int) (Zm E.2.1 0 0 (QI E.2.2.1 E.2.2.2.1 E.2.2.2.2 Q)) pc ls st E.2.2.1 E.2.2.2.1 E.2.2.2.2 V 0 0
def c6_reckon (E : eT) (x1 : Int32) (x2 : Int32) (x3 : Int32) (V : vT) (k : Int32 → vT → Prop) : Prop := MOk E.1 E.2.1 0 yX6_reckon cX6_reckon 3 (some .int) [vi x1, vi x2, vi x3] E.2.2.1 E.2.2.2.1 E.2.2.2.2 V 0 0 (QI E.2.2.1 E.2.2.2.1 E.2.2.2.2 k)
def w6_draws (E : eT) (Q : Int32 → vT → Prop) (pc : Nat) (ls : List (Option aV)) (st : List aV) (V : vT) : Prop := wp E.1 E.2.1 (rmQ 0 0 0) "InsuredFlameModel" "draws" cX6_draws 1 (some .int) (Zm E.2.1 0 0 (QI E.2.2.1 E.2.2.2.1 E.2.2.2.2 Q)) pc ls st E.2.2.1 E.2.2.2.1 E.2.2.2.2 V 0 0
def c6_draws (E : eT)  (V : vT) (k : Int32 → vT → Prop) : Prop := MOk E.1 E.2.1 0 yX6_draws cX6_draws 1 (some .int) [vr 214] E.2.2.1 E.2.2.2.1 E.2.2.2.2 V 0 0 (QI E.2.2.1 E.2.2.2.1 E.2.2.2.2 k)
def w6_holdsAny (E : eT) (Q : Int32 → vT → Prop) (pc : Nat) (ls : List (Option aV)) (st : List aV) (V : vT) : Prop := wp E.1 E.2.1 (rmQ 2 0 0) "InsuredFlameModel" "holdsAny" cX6_holdsAny 3 (some .boolean) (Zm E.2.1 0 0 (QI E.2.2.1 E.2.2.2.1 E.2.2.2.2 Q)) pc ls st E.2.2.1 E.2.2.2.1 E.2.2.2.2 V 0 0
def c6_holdsAny (E : eT) (x1 : Int32) (V : vT) (k : Int32 → vT → Prop) : Prop := MOk E.1 E.2.1 2 yX6_holdsAny cX6_holdsAny 3 (some .boolean) [vr 214, vi x1] E.2.2.1 E.2.2.2.1 E.2.2.2.2 V 0 0 (QI E.2.2.1 E.2.2.2.1 E.2.2.2.2 k)
def w6_faring (E : eT) (Q : Int32 → vT → Prop) (pc : Nat) (ls : List (Option aV)) (st : List aV) (V : vT) : Prop := wp E.1 E.2.1 (rmQ 0 0 0) "InsuredFlameModel" "faring" cX6_faring 4 (some .int) (Zm E.2.1 0 0 (QI E.2.2.1 E.2.2.2.1 E.2.2.2.2 Q)) pc ls st E.2.2.1 E.2.2.2.1 E.2.2.2.2 V 0 0
def c6_faring (E : eT) (x1 : Int32) (V : vT) (k : Int32 → vT → Prop) : Prop := MOk E.1 E.2.1 0 yX6_faring cX6_faring 4 (some .int) [vr 214, vi x1] E.2.2.1 E.2.2.2.1 E.2.2.2.2 V 0 0 (QI E.2.2.1 E.2.2.2.1 E.2.2.2.2 k)
def w6_tried (E : eT) (Q : Int32 → vT → Prop) (pc : Nat) (ls : List (Option aV)) (st : List aV) (V : vT) : Prop := wp E.1 E.2.1 (rmQ 9 0 0) "InsuredFlameModel" "tried" cX6_tried 4 (some .int) (Zm E.2.1 0 0 (QI E.2.2.1 E.2.2.2.1 E.2.2.2.2 Q)) pc ls st E.2.2.1 E.2.2.2.1 E.2.2.2.2 V 0 0
def c6_tried (E : eT) (x1 : Int32) (x2 : Int32) (V : vT) (k : Int32 → vT → Prop) : Prop := MOk E.1 E.2.1 9 yX6_tried cX6_tried 4 (some .int) [vr 214, vi x1, vi x2] E.2.2.1 E.2.2.2.1 E.2.2.2.2 V 0 0 (QI E.2.2.1 E.2.2.2.1 E.2.2.2.2 k)
def w6_goneSet (E : eT) (Q : Int32 → vT → Prop) (pc : Nat) (ls : List (Option aV)) (st : List aV) (V : vT) : Prop := wp E.1 E.2.1 (rmQ 2 0 0) "InsuredFlameModel" "goneSet" cX6_goneSet 3 (some .int) (Zm E.2.1 0 0 (QI E.2.2.1 E.2.2.2.1 E.2.2.2.2 Q)) pc ls st E.2.2.1 E.2.2.2.1 E.2.2.2.2 V 0 0
def c6_goneSet (E : eT)  (V : vT) (k : Int32 → vT → Prop) : Prop := MOk E.1 E.2.1 2 yX6_goneSet cX6_goneSet 3 (some .int) [vr 214] E.2.2.1 E.2.2.2.1 E.2.2.2.2 V 0 0 (QI E.2.2.1 E.2.2.2.1 E.2.2.2.2 k)
def w6_sumsInRuins (E : eT) (Q : Int32 → vT → Prop) (pc : Nat) (ls : List (Option aV)) (st : List aV) (V : vT) : Prop := wp E.1 E.2.1 (rmQ 4 0 0) "InsuredFlameModel" "sumsInRuins" cX6_sumsInRuins 3 (some .int) (Zm E.2.1 0 0 (QI E.2.2.1 E.2.2.2.1 E.2.2.2.2 Q)) pc ls st E.2.2.1 E.2.2.2.1 E.2.2.2.2 V 0 0
def c6_sumsInRuins (E : eT)  (V : vT) (k : Int32 → vT → Prop) : Prop := MOk E.1 E.2.1 4 yX6_sumsInRuins cX6_sumsInRuins 3 (some .int) [vr 214] E.2.2.1 E.2.2.2.1 E.2.2.2.2 V 0 0 (QI E.2.2.1 E.2.2.2.1 E.2.2.2.2 k)
def w6_placeIs (E : eT) (Q : Int32 → vT → Prop) (pc : Nat) (ls : List (Option aV)) (st : List aV) (V : vT) : Prop := wp E.1 E.2.1 (rmQ 4 0 0) "InsuredFlameModel" "placeIs" cX6_placeIs 5 (some .int) (Zm E.2.1 0 0 (QI E.2.2.1 E.2.2.2.1 E.2.2.2.2 Q)) pc ls st E.2.2.1 E.2.2.2.1 E.2.2.2.2 V 0 0
def c6_placeIs (E : eT) (x1 : Int32) (x2 : Int32) (x3 : Int32) (V : vT) (k : Int32 → vT → Prop) : Prop := MOk E.1 E.2.1 4 yX6_placeIs cX6_placeIs 5 (some .int) [vr 214, vi x1, vi x2, vi x3] E.2.2.1 E.2.2.2.1 E.2.2.2.2 V 0 0 (QI E.2.2.1 E.2.2.2.1 E.2.2.2.2 k)
def w6_thingsAt (E : eT) (Q : Int32 → vT → Prop) (pc : Nat) (ls : List (Option aV)) (st : List aV) (V : vT) : Prop := wp E.1 E.2.1 (rmQ 3 0 0) "InsuredFlameModel" "thingsAt" cX6_thingsAt 4 (some .int) (Zm E.2.1 0 0 (QI E.2.2.1 E.2.2.2.1 E.2.2.2.2 Q)) pc ls st E.2.2.1 E.2.2.2.1 E.2.2.2.2 V 0 0
def c6_thingsAt (E : eT) (x1 : Int32) (V : vT) (k : Int32 → vT → Prop) : Prop := MOk E.1 E.2.1 3 yX6_thingsAt cX6_thingsAt 4 (some .int) [vr 214, vi x1] E.2.2.1 E.2.2.2.1 E.2.2.2.2 V 0 0 (QI E.2.2.1 E.2.2.2.1 E.2.2.2.2 k)
def w6_thingIs (E : eT) (Q : Int32 → vT → Prop) (pc : Nat) (ls : List (Option aV)) (st : List aV) (V : vT) : Prop := wp E.1 E.2.1 (rmQ 2 0 0) "InsuredFlameModel" "thingIs" cX6_thingIs 5 (some .int) (Zm E.2.1 0 0 (QI E.2.2.1 E.2.2.2.1 E.2.2.2.2 Q)) pc ls st E.2.2.1 E.2.2.2.1 E.2.2.2.2 V 0 0
def c6_thingIs (E : eT) (x1 : Int32) (x2 : Int32) (V : vT) (k : Int32 → vT → Prop) : Prop := MOk E.1 E.2.1 2 yX6_thingIs cX6_thingIs 5 (some .int) [vr 214, vi x1, vi x2] E.2.2.1 E.2.2.2.1 E.2.2.2.2 V 0 0 (QI E.2.2.1 E.2.2.2.1 E.2.2.2.2 k)
def w6_comes (E : eT) (Q : Int32 → vT → Prop) (pc : Nat) (ls : List (Option aV)) (st : List aV) (V : vT) : Prop := wp E.1 E.2.1 (rmQ 8 0 0) "InsuredFlameModel" "comes" cX6_comes 7 (some .int) (Zm E.2.1 0 0 (QI E.2.2.1 E.2.2.2.1 E.2.2.2.2 Q)) pc ls st E.2.2.1 E.2.2.2.1 E.2.2.2.2 V 0 0
def c6_comes (E : eT) (x1 : Int32) (x2 : Int32) (x3 : Int32) (V : vT) (k : Int32 → vT → Prop) : Prop := MOk E.1 E.2.1 8 yX6_comes cX6_comes 7 (some .int) [vr 214, vi x1, vi x2, vi x3] E.2.2.1 E.2.2.2.1 E.2.2.2.2 V 0 0 (QI E.2.2.1 E.2.2.2.1 E.2.2.2.2 k)
def w6_over (E : eT) (Q : Int32 → vT → Prop) (pc : Nat) (ls : List (Option aV)) (st : List aV) (V : vT) : Prop := wp E.1 E.2.1 (rmQ 8 0 0) "InsuredFlameModel" "over" cX6_over 4 (some .int) (Zm E.2.1 0 0 (QI E.2.2.1 E.2.2.2.1 E.2.2.2.2 Q)) pc ls st E.2.2.1 E.2.2.2.1 E.2.2.2.2 V 0 0
def c6_over (E : eT) (x1 : Int32) (V : vT) (k : Int32 → vT → Prop) : Prop := MOk E.1 E.2.1 8 yX6_over cX6_over 4 (some .int) [vr 214, vi x1] E.2.2.1 E.2.2.2.1 E.2.2.2.2 V 0 0 (QI E.2.2.1 E.2.2.2.1 E.2.2.2.2 k)
def w6_steps (E : eT) (Q : Int32 → vT → Prop) (pc : Nat) (ls : List (Option aV)) (st : List aV) (V : vT) : Prop := wp E.1 E.2.1 (rmQ 5 0 0) "InsuredFlameModel" "steps" cX6_steps 3 (some .int) (Zm E.2.1 0 0 (QI E.2.2.1 E.2.2.2.1 E.2.2.2.2 Q)) pc ls st E.2.2.1 E.2.2.2.1 E.2.2.2.2 V 0 0
def c6_steps (E : eT) (x1 : Int32) (x2 : Int32) (V : vT) (k : Int32 → vT → Prop) : Prop := MOk E.1 E.2.1 5 yX6_steps cX6_steps 3 (some .int) [vr 214, vi x1, vi x2] E.2.2.1 E.2.2.2.1 E.2.2.2.2 V 0 0 (QI E.2.2.1 E.2.2.2.1 E.2.2.2.2 k)
def w6_laysFireFrom (E : eT) (Q : vT → Prop) (pc : Nat) (ls : List (Option aV)) (st : List aV) (V : vT) : Prop := wp E.1 E.2.1 (rmQ 4 0 0) "InsuredFlameModel" "laysFireFrom" cX6_laysFireFrom 2 none (Zm E.2.1 0 0 (QV E.2.2.1 E.2.2.2.1 E.2.2.2.2 Q)) pc ls st E.2.2.1 E.2.2.2.1 E.2.2.2.2 V 0 0
def c6_laysFireFrom (E : eT) (x1 : Int32) (V : vT) (k : vT → Prop) : Prop := MOk E.1 E.2.1 4 yX6_laysFireFrom cX6_laysFireFrom 2 none [vr 214, vi x1] E.2.2.1 E.2.2.2.1 E.2.2.2.2 V 0 0 (QV E.2.2.1 E.2.2.2.1 E.2.2.2.2 k)
def w6_clearsFire (E : eT) (Q : vT → Prop) (pc : Nat) (ls : List (Option aV)) (st : List aV) (V : vT) : Prop := wp E.1 E.2.1 (rmQ 0 0 0) "InsuredFlameModel" "clearsFire" cX6_clearsFire 2 none (Zm E.2.1 0 0 (QV E.2.2.1 E.2.2.2.1 E.2.2.2.2 Q)) pc ls st E.2.2.1 E.2.2.2.1 E.2.2.2.2 V 0 0
def c6_clearsFire (E : eT)  (V : vT) (k : vT → Prop) : Prop := MOk E.1 E.2.1 0 yX6_clearsFire cX6_clearsFire 2 none [vr 214] E.2.2.1 E.2.2.2.1 E.2.2.2.2 V 0 0 (QV E.2.2.1 E.2.2.2.1 E.2.2.2.2 k)
def w6_laysFire (E : eT) (Q : vT → Prop) (pc : Nat) (ls : List (Option aV)) (st : List aV) (V : vT) : Prop := wp E.1 E.2.1 (rmQ 3 0 0) "InsuredFlameModel" "laysFire" cX6_laysFire 6 none (Zm E.2.1 0 0 (QV E.2.2.1 E.2.2.2.1 E.2.2.2.2 Q)) pc ls st E.2.2.1 E.2.2.2.1 E.2.2.2.2 V 0 0
def c6_laysFire (E : eT) (x1 : Int32) (V : vT) (k : vT → Prop) : Prop := MOk E.1 E.2.1 3 yX6_laysFire cX6_laysFire 6 none [vr 214, vi x1] E.2.2.1 E.2.2.2.1 E.2.2.2.2 V 0 0 (QV E.2.2.1 E.2.2.2.1 E.2.2.2.2 k)
def w6_began (E : eT) (Q : Int32 → vT → Prop) (pc : Nat) (ls : List (Option aV)) (st : List aV) (V : vT) : Prop := wp E.1 E.2.1 (rmQ 6 0 0) "InsuredFlameModel" "began" cX6_began 6 (some .int) (Zm E.2.1 0 0 (QI E.2.2.1 E.2.2.2.1 E.2.2.2.2 Q)) pc ls st E.2.2.1 E.2.2.2.1 E.2.2.2.2 V 0 0
def c6_began (E : eT) (x1 : Int32) (x2 : Int32) (V : vT) (k : Int32 → vT → Prop) : Prop := MOk E.1 E.2.1 6 yX6_began cX6_began 6 (some .int) [vr 214, vi x1, vi x2] E.2.2.1 E.2.2.2.1 E.2.2.2.2 V 0 0 (QI E.2.2.1 E.2.2.2.1 E.2.2.2.2 k)
def w6_couldBegin (E : eT) (Q : Int32 → vT → Prop) (pc : Nat) (ls : List (Option aV)) (st : List aV) (V : vT) : Prop := wp E.1 E.2.1 (rmQ 5 0 0) "InsuredFlameModel" "couldBegin" cX6_couldBegin 4 (some .boolean) (Zm E.2.1 0 0 (QI E.2.2.1 E.2.2.2.1 E.2.2.2.2 Q)) pc ls st E.2.2.1 E.2.2.2.1 E.2.2.2.2 V 0 0
def c6_couldBegin (E : eT) (x1 : Int32) (x2 : Int32) (V : vT) (k : Int32 → vT → Prop) : Prop := MOk E.1 E.2.1 5 yX6_couldBegin cX6_couldBegin 4 (some .boolean) [vr 214, vi x1, vi x2] E.2.2.1 E.2.2.2.1 E.2.2.2.2 V 0 0 (QI E.2.2.1 E.2.2.2.1 E.2.2.2.2 k)
def w6_breaks (E : eT) (Q : Int32 → vT → Prop) (pc : Nat) (ls : List (Option aV)) (st : List aV) (V : vT) : Prop := wp E.1 E.2.1 (rmQ 5 0 0) "InsuredFlameModel" "breaks" cX6_breaks 4 (some .int) (Zm E.2.1 0 0 (QI E.2.2.1 E.2.2.2.1 E.2.2.2.2 Q)) pc ls st E.2.2.1 E.2.2.2.1 E.2.2.2.2 V 0 0
def c6_breaks (E : eT) (x1 : Int32) (x2 : Int32) (V : vT) (k : Int32 → vT → Prop) : Prop := MOk E.1 E.2.1 5 yX6_breaks cX6_breaks 4 (some .int) [vr 214, vi x1, vi x2] E.2.2.1 E.2.2.2.1 E.2.2.2.2 V 0 0 (QI E.2.2.1 E.2.2.2.1 E.2.2.2.2 k)
def w6_waysApart (E : eT) (Q : Int32 → vT → Prop) (pc : Nat) (ls : List (Option aV)) (st : List aV) (V : vT) : Prop := wp E.1 E.2.1 (rmQ 4 0 0) "InsuredFlameModel" "waysApart" cX6_waysApart 5 (some .int) (Zm E.2.1 0 0 (QI E.2.2.1 E.2.2.2.1 E.2.2.2.2 Q)) pc ls st E.2.2.1 E.2.2.2.1 E.2.2.2.2 V 0 0
def c6_waysApart (E : eT) (x1 : Int32) (x2 : Int32) (V : vT) (k : Int32 → vT → Prop) : Prop := MOk E.1 E.2.1 4 yX6_waysApart cX6_waysApart 5 (some .int) [vr 214, vi x1, vi x2] E.2.2.1 E.2.2.2.1 E.2.2.2.2 V 0 0 (QI E.2.2.1 E.2.2.2.1 E.2.2.2.2 k)
def w6_findsWay (E : eT) (Q : Int32 → vT → Prop) (pc : Nat) (ls : List (Option aV)) (st : List aV) (V : vT) : Prop := wp E.1 E.2.1 (rmQ 3 0 0) "InsuredFlameModel" "findsWay" cX6_findsWay 9 (some .boolean) (Zm E.2.1 0 0 (QI E.2.2.1 E.2.2.2.1 E.2.2.2.2 Q)) pc ls st E.2.2.1 E.2.2.2.1 E.2.2.2.2 V 0 0
def c6_findsWay (E : eT) (x1 : Int32) (x2 : Int32) (V : vT) (k : Int32 → vT → Prop) : Prop := MOk E.1 E.2.1 3 yX6_findsWay cX6_findsWay 9 (some .boolean) [vr 214, vi x1, vi x2] E.2.2.1 E.2.2.2.1 E.2.2.2.2 V 0 0 (QI E.2.2.1 E.2.2.2.1 E.2.2.2.2 k)
def w6_visits (E : eT) (Q : vT → Prop) (pc : Nat) (ls : List (Option aV)) (st : List aV) (V : vT) : Prop := wp E.1 E.2.1 (rmQ 0 0 0) "InsuredFlameModel" "visits" cX6_visits 3 none (Zm E.2.1 0 0 (QV E.2.2.1 E.2.2.2.1 E.2.2.2.2 Q)) pc ls st E.2.2.1 E.2.2.2.1 E.2.2.2.2 V 0 0
def c6_visits (E : eT) (x1 : Int32) (x2 : Int32) (V : vT) (k : vT → Prop) : Prop := MOk E.1 E.2.1 0 yX6_visits cX6_visits 3 none [vr 214, vi x1, vi x2] E.2.2.1 E.2.2.2.1 E.2.2.2.2 V 0 0 (QV E.2.2.1 E.2.2.2.1 E.2.2.2.2 k)
def w6_goesAlong (E : eT) (Q : vT → Prop) (pc : Nat) (ls : List (Option aV)) (st : List aV) (V : vT) : Prop := wp E.1 E.2.1 (rmQ 0 0 0) "InsuredFlameModel" "goesAlong" cX6_goesAlong 8 none (Zm E.2.1 0 0 (QV E.2.2.1 E.2.2.2.1 E.2.2.2.2 Q)) pc ls st E.2.2.1 E.2.2.2.1 E.2.2.2.2 V 0 0
def c6_goesAlong (E : eT) (x1 : Int32) (x2 : Int32) (V : vT) (k : vT → Prop) : Prop := MOk E.1 E.2.1 0 yX6_goesAlong cX6_goesAlong 8 none [vr 214, vi x1, vi x2] E.2.2.1 E.2.2.2.1 E.2.2.2.2 V 0 0 (QV E.2.2.1 E.2.2.2.1 E.2.2.2.2 k)
def w6_getsOut (E : eT) (Q : Int32 → vT → Prop) (pc : Nat) (ls : List (Option aV)) (st : List aV) (V : vT) : Prop := wp E.1 E.2.1 (rmQ 5 0 0) "InsuredFlameModel" "getsOut" cX6_getsOut 7 (some .int) (Zm E.2.1 0 0 (QI E.2.2.1 E.2.2.2.1 E.2.2.2.2 Q)) pc ls st E.2.2.1 E.2.2.2.1 E.2.2.2.2 V 0 0
def c6_getsOut (E : eT) (x1 : Int32) (V : vT) (k : Int32 → vT → Prop) : Prop := MOk E.1 E.2.1 5 yX6_getsOut cX6_getsOut 7 (some .int) [vr 214, vi x1] E.2.2.1 E.2.2.2.1 E.2.2.2.2 V 0 0 (QI E.2.2.1 E.2.2.2.1 E.2.2.2.2 k)
def w6_laysFireNow (E : eT) (Q : vT → Prop) (pc : Nat) (ls : List (Option aV)) (st : List aV) (V : vT) : Prop := wp E.1 E.2.1 (rmQ 4 0 0) "InsuredFlameModel" "laysFireNow" cX6_laysFireNow 3 none (Zm E.2.1 0 0 (QV E.2.2.1 E.2.2.2.1 E.2.2.2.2 Q)) pc ls st E.2.2.1 E.2.2.2.1 E.2.2.2.2 V 0 0
def c6_laysFireNow (E : eT)  (V : vT) (k : vT → Prop) : Prop := MOk E.1 E.2.1 4 yX6_laysFireNow cX6_laysFireNow 3 none [vr 214] E.2.2.1 E.2.2.2.1 E.2.2.2.2 V 0 0 (QV E.2.2.1 E.2.2.2.1 E.2.2.2.2 k)
def w6_isAtEdge (E : eT) (Q : Int32 → vT → Prop) (pc : Nat) (ls : List (Option aV)) (st : List aV) (V : vT) : Prop := wp E.1 E.2.1 (rmQ 0 0 0) "InsuredFlameModel" "isAtEdge" cX6_isAtEdge 1 (some .boolean) (Zm E.2.1 0 0 (QI E.2.2.1 E.2.2.2.1 E.2.2.2.2 Q)) pc ls st E.2.2.1 E.2.2.2.1 E.2.2.2.2 V 0 0
def c6_isAtEdge (E : eT) (x1 : Int32) (V : vT) (k : Int32 → vT → Prop) : Prop := MOk E.1 E.2.1 0 yX6_isAtEdge cX6_isAtEdge 1 (some .boolean) [vi x1] E.2.2.1 E.2.2.2.1 E.2.2.2.2 V 0 0 (QI E.2.2.1 E.2.2.2.1 E.2.2.2.2 k)
def w6_safe (E : eT) (Q : Int32 → vT → Prop) (pc : Nat) (ls : List (Option aV)) (st : List aV) (V : vT) : Prop := wp E.1 E.2.1 (rmQ 5 0 0) "InsuredFlameModel" "safe" cX6_safe 5 (some .int) (Zm E.2.1 0 0 (QI E.2.2.1 E.2.2.2.1 E.2.2.2.2 Q)) pc ls st E.2.2.1 E.2.2.2.1 E.2.2.2.2 V 0 0
def c6_safe (E : eT) (x1 : Int32) (V : vT) (k : Int32 → vT → Prop) : Prop := MOk E.1 E.2.1 5 yX6_safe cX6_safe 5 (some .int) [vr 214, vi x1] E.2.2.1 E.2.2.2.1 E.2.2.2.2 V 0 0 (QI E.2.2.1 E.2.2.2.1 E.2.2.2.2 k)
def w6_woods (E : eT) (Q : Int32 → vT → Prop) (pc : Nat) (ls : List (Option aV)) (st : List aV) (V : vT) : Prop := wp E.1 E.2.1 (rmQ 4 0 0) "InsuredFlameModel" "woods" cX6_woods 6 (some .int) (Zm E.2.1 0 0 (QI E.2.2.1 E.2.2.2.1 E.2.2.2.2 Q)) pc ls st E.2.2.1 E.2.2.2.1 E.2.2.2.2 V 0 0
def c6_woods (E : eT) (x1 : Int32) (V : vT) (k : Int32 → vT → Prop) : Prop := MOk E.1 E.2.1 4 yX6_woods cX6_woods 6 (some .int) [vr 214, vi x1] E.2.2.1 E.2.2.2.1 E.2.2.2.2 V 0 0 (QI E.2.2.1 E.2.2.2.1 E.2.2.2.2 k)
def w6_woodSeen (E : eT) (Q : Int32 → vT → Prop) (pc : Nat) (ls : List (Option aV)) (st : List aV) (V : vT) : Prop := wp E.1 E.2.1 (rmQ 0 0 0) "InsuredFlameModel" "woodSeen" cX6_woodSeen 3 (some .int) (Zm E.2.1 0 0 (QI E.2.2.1 E.2.2.2.1 E.2.2.2.2 Q)) pc ls st E.2.2.1 E.2.2.2.1 E.2.2.2.2 V 0 0
def c6_woodSeen (E : eT)  (V : vT) (k : Int32 → vT → Prop) : Prop := MOk E.1 E.2.1 0 yX6_woodSeen cX6_woodSeen 3 (some .int) [vr 214] E.2.2.1 E.2.2.2.1 E.2.2.2.2 V 0 0 (QI E.2.2.1 E.2.2.2.1 E.2.2.2.2 k)
def w6_max (E : eT) (Q : Int32 → vT → Prop) (pc : Nat) (ls : List (Option aV)) (st : List aV) (V : vT) : Prop := wp E.1 E.2.1 (rmQ 0 0 0) "InsuredFlameModel" "max" cX6_max 2 (some .int) (Zm E.2.1 0 0 (QI E.2.2.1 E.2.2.2.1 E.2.2.2.2 Q)) pc ls st E.2.2.1 E.2.2.2.1 E.2.2.2.2 V 0 0
def c6_max (E : eT) (x1 : Int32) (x2 : Int32) (V : vT) (k : Int32 → vT → Prop) : Prop := MOk E.1 E.2.1 0 yX6_max cX6_max 2 (some .int) [vi x1, vi x2] E.2.2.1 E.2.2.2.1 E.2.2.2.2 V 0 0 (QI E.2.2.1 E.2.2.2.1 E.2.2.2.2 k)
def w6_insure (E : eT) (Q : Int32 → vT → Prop) (pc : Nat) (ls : List (Option aV)) (st : List aV) (V : vT) : Prop := wp E.1 E.2.1 (rmQ 1 0 0) "InsuredFlameModel" "insure" cX6_insure 11 (some .int) (Zm E.2.1 0 0 (QI E.2.2.1 E.2.2.2.1 E.2.2.2.2 Q)) pc ls st E.2.2.1 E.2.2.2.1 E.2.2.2.2 V 0 0
def c6_insure (E : eT) (x1 : Int32) (x2 : Int32) (x3 : Int32) (V : vT) (k : Int32 → vT → Prop) : Prop := MOk E.1 E.2.1 1 yX6_insure cX6_insure 11 (some .int) [vr 214, vi x1, vi x2, vi x3] E.2.2.1 E.2.2.2.1 E.2.2.2.2 V 0 0 (QI E.2.2.1 E.2.2.2.1 E.2.2.2.2 k)
def w6_has (E : eT) (Q : Int32 → vT → Prop) (pc : Nat) (ls : List (Option aV)) (st : List aV) (V : vT) : Prop := wp E.1 E.2.1 (rmQ 0 0 0) "InsuredFlameModel" "has" cX6_has 2 (some .boolean) (Zm E.2.1 0 0 (QI E.2.2.1 E.2.2.2.1 E.2.2.2.2 Q)) pc ls st E.2.2.1 E.2.2.2.1 E.2.2.2.2 V 0 0
def c6_has (E : eT) (x1 : Int32) (x2 : Int32) (V : vT) (k : Int32 → vT → Prop) : Prop := MOk E.1 E.2.1 0 yX6_has cX6_has 2 (some .boolean) [vi x1, vi x2] E.2.2.1 E.2.2.2.1 E.2.2.2.2 V 0 0 (QI E.2.2.1 E.2.2.2.1 E.2.2.2.2 k)
def w6_octet (E : eT) (Q : Int32 → vT → Prop) (pc : Nat) (ls : List (Option aV)) (st : List aV) (V : vT) : Prop := wp E.1 E.2.1 (rmQ 0 0 0) "InsuredFlameModel" "octet" cX6_octet 2 (some .int) (Zm E.2.1 0 0 (QI E.2.2.1 E.2.2.2.1 E.2.2.2.2 Q)) pc ls st E.2.2.1 E.2.2.2.1 E.2.2.2.2 V 0 0
def c6_octet (E : eT) (x1 : Int32) (V : vT) (k : Int32 → vT → Prop) : Prop := MOk E.1 E.2.1 0 yX6_octet cX6_octet 2 (some .int) [vr 214, vi x1] E.2.2.1 E.2.2.2.1 E.2.2.2.2 V 0 0 (QI E.2.2.1 E.2.2.2.1 E.2.2.2.2 k)
def w6_roundFigure (E : eT) (Q : Int32 → vT → Prop) (pc : Nat) (ls : List (Option aV)) (st : List aV) (V : vT) : Prop := wp E.1 E.2.1 (rmQ 1 0 0) "InsuredFlameModel" "roundFigure" cX6_roundFigure 4 (some .int) (Zm E.2.1 0 0 (QI E.2.2.1 E.2.2.2.1 E.2.2.2.2 Q)) pc ls st E.2.2.1 E.2.2.2.1 E.2.2.2.2 V 0 0
def c6_roundFigure (E : eT) (x1 : Int32) (V : vT) (k : Int32 → vT → Prop) : Prop := MOk E.1 E.2.1 1 yX6_roundFigure cX6_roundFigure 4 (some .int) [vr 214, vi x1] E.2.2.1 E.2.2.2.1 E.2.2.2.2 V 0 0 (QI E.2.2.1 E.2.2.2.1 E.2.2.2.2 k)
def w6_size (E : eT) (Q : Int32 → vT → Prop) (pc : Nat) (ls : List (Option aV)) (st : List aV) (V : vT) : Prop := wp E.1 E.2.1 (rmQ 0 0 0) "InsuredFlameModel" "size" cX6_size 1 (some .int) (Zm E.2.1 0 0 (QI E.2.2.1 E.2.2.2.1 E.2.2.2.2 Q)) pc ls st E.2.2.1 E.2.2.2.1 E.2.2.2.2 V 0 0
def c6_size (E : eT) (x1 : Int32) (V : vT) (k : Int32 → vT → Prop) : Prop := MOk E.1 E.2.1 0 yX6_size cX6_size 1 (some .int) [vi x1] E.2.2.1 E.2.2.2.1 E.2.2.2.2 V 0 0 (QI E.2.2.1 E.2.2.2.1 E.2.2.2.2 k)
def w6_ruin (E : eT) (Q : Int32 → vT → Prop) (pc : Nat) (ls : List (Option aV)) (st : List aV) (V : vT) : Prop := wp E.1 E.2.1 (rmQ 2 0 0) "InsuredFlameModel" "ruin" cX6_ruin 7 (some .int) (Zm E.2.1 0 0 (QI E.2.2.1 E.2.2.2.1 E.2.2.2.2 Q)) pc ls st E.2.2.1 E.2.2.2.1 E.2.2.2.2 V 0 0
def c6_ruin (E : eT) (x1 : Int32) (x2 : Int32) (x3 : Int32) (V : vT) (k : Int32 → vT → Prop) : Prop := MOk E.1 E.2.1 2 yX6_ruin cX6_ruin 7 (some .int) [vr 214, vi x1, vi x2, vi x3] E.2.2.1 E.2.2.2.1 E.2.2.2.2 V 0 0 (QI E.2.2.1 E.2.2.2.1 E.2.2.2.2 k)
def w6_restOf (E : eT) (Q : Int32 → vT → Prop) (pc : Nat) (ls : List (Option aV)) (st : List aV) (V : vT) : Prop := wp E.1 E.2.1 (rmQ 1 0 0) "InsuredFlameModel" "restOf" cX6_restOf 6 (some .int) (Zm E.2.1 0 0 (QI E.2.2.1 E.2.2.2.1 E.2.2.2.2 Q)) pc ls st E.2.2.1 E.2.2.2.1 E.2.2.2.2 V 0 0
def c6_restOf (E : eT) (x1 : Int32) (x2 : Int32) (x3 : Int32) (V : vT) (k : Int32 → vT → Prop) : Prop := MOk E.1 E.2.1 1 yX6_restOf cX6_restOf 6 (some .int) [vr 214, vi x1, vi x2, vi x3] E.2.2.1 E.2.2.2.1 E.2.2.2.2 V 0 0 (QI E.2.2.1 E.2.2.2.1 E.2.2.2.2 k)
def w6_bits (E : eT) (Q : Int32 → vT → Prop) (pc : Nat) (ls : List (Option aV)) (st : List aV) (V : vT) : Prop := wp E.1 E.2.1 (rmQ 0 0 0) "InsuredFlameModel" "bits" cX6_bits 3 (some .int) (Zm E.2.1 0 0 (QI E.2.2.1 E.2.2.2.1 E.2.2.2.2 Q)) pc ls st E.2.2.1 E.2.2.2.1 E.2.2.2.2 V 0 0
def c6_bits (E : eT) (x1 : Int32) (V : vT) (k : Int32 → vT → Prop) : Prop := MOk E.1 E.2.1 0 yX6_bits cX6_bits 3 (some .int) [vi x1] E.2.2.1 E.2.2.2.1 E.2.2.2.2 V 0 0 (QI E.2.2.1 E.2.2.2.1 E.2.2.2.2 k)
def w6_carried (E : eT) (Q : Int32 → vT → Prop) (pc : Nat) (ls : List (Option aV)) (st : List aV) (V : vT) : Prop := wp E.1 E.2.1 (rmQ 2 0 0) "InsuredFlameModel" "carried" cX6_carried 4 (some .int) (Zm E.2.1 0 0 (QI E.2.2.1 E.2.2.2.1 E.2.2.2.2 Q)) pc ls st E.2.2.1 E.2.2.2.1 E.2.2.2.2 V 0 0
def c6_carried (E : eT) (x1 : Int32) (V : vT) (k : Int32 → vT → Prop) : Prop := MOk E.1 E.2.1 2 yX6_carried cX6_carried 4 (some .int) [vr 214, vi x1] E.2.2.1 E.2.2.2.1 E.2.2.2.2 V 0 0 (QI E.2.2.1 E.2.2.2.1 E.2.2.2.2 k)
def w6_laysRow (E : eT) (Q : vT → Prop) (pc : Nat) (ls : List (Option aV)) (st : List aV) (V : vT) : Prop := wp E.1 E.2.1 (rmQ 1 0 0) "InsuredFlameModel" "laysRow" cX6_laysRow 4 none (Zm E.2.1 0 0 (QV E.2.2.1 E.2.2.2.1 E.2.2.2.2 Q)) pc ls st E.2.2.1 E.2.2.2.1 E.2.2.2.2 V 0 0
def c6_laysRow (E : eT) (x1 : Int32) (V : vT) (k : vT → Prop) : Prop := MOk E.1 E.2.1 1 yX6_laysRow cX6_laysRow 4 none [vr 214, vi x1] E.2.2.1 E.2.2.2.1 E.2.2.2.2 V 0 0 (QV E.2.2.1 E.2.2.2.1 E.2.2.2.2 k)
def w6_worthOf (E : eT) (Q : Int32 → vT → Prop) (pc : Nat) (ls : List (Option aV)) (st : List aV) (V : vT) : Prop := wp E.1 E.2.1 (rmQ 1 0 0) "InsuredFlameModel" "worthOf" cX6_worthOf 7 (some .int) (Zm E.2.1 0 0 (QI E.2.2.1 E.2.2.2.1 E.2.2.2.2 Q)) pc ls st E.2.2.1 E.2.2.2.1 E.2.2.2.2 V 0 0
def c6_worthOf (E : eT) (x1 : Int32) (x2 : Int32) (V : vT) (k : Int32 → vT → Prop) : Prop := MOk E.1 E.2.1 1 yX6_worthOf cX6_worthOf 7 (some .int) [vr 214, vi x1, vi x2] E.2.2.1 E.2.2.2.1 E.2.2.2.2 V 0 0 (QI E.2.2.1 E.2.2.2.1 E.2.2.2.2 k)
def w6_premium (E : eT) (Q : Int32 → vT → Prop) (pc : Nat) (ls : List (Option aV)) (st : List aV) (V : vT) : Prop := wp E.1 E.2.1 (rmQ 1 0 0) "InsuredFlameModel" "premium" cX6_premium 6 (some .int) (Zm E.2.1 0 0 (QI E.2.2.1 E.2.2.2.1 E.2.2.2.2 Q)) pc ls st E.2.2.1 E.2.2.2.1 E.2.2.2.2 V 0 0
def c6_premium (E : eT) (x1 : Int32) (x2 : Int32) (V : vT) (k : Int32 → vT → Prop) : Prop := MOk E.1 E.2.1 1 yX6_premium cX6_premium 6 (some .int) [vr 214, vi x1, vi x2] E.2.2.1 E.2.2.2.1 E.2.2.2.2 V 0 0 (QI E.2.2.1 E.2.2.2.1 E.2.2.2.2 k)
def w6_seed (E : eT) (Q : Int32 → vT → Prop) (pc : Nat) (ls : List (Option aV)) (st : List aV) (V : vT) : Prop := wp E.1 E.2.1 (rmQ 1 0 0) "InsuredFlameModel" "seed" cX6_seed 2 (some .boolean) (Zm E.2.1 0 0 (QI E.2.2.1 E.2.2.2.1 E.2.2.2.2 Q)) pc ls st E.2.2.1 E.2.2.2.1 E.2.2.2.2 V 0 0
def c6_seed (E : eT) (x1 : Int32) (V : vT) (k : Int32 → vT → Prop) : Prop := MOk E.1 E.2.1 1 yX6_seed cX6_seed 2 (some .boolean) [vr 214, vi x1] E.2.2.1 E.2.2.2.1 E.2.2.2.2 V 0 0 (QI E.2.2.1 E.2.2.2.1 E.2.2.2.2 k)
def w6_keep (E : eT) (Q : Int32 → vT → Prop) (pc : Nat) (ls : List (Option aV)) (st : List aV) (V : vT) : Prop := wp E.1 E.2.1 (rmQ 1 0 0) "InsuredFlameModel" "keep" cX6_keep 1 (some .int) (Zm E.2.1 0 0 (QI E.2.2.1 E.2.2.2.1 E.2.2.2.2 Q)) pc ls st E.2.2.1 E.2.2.2.1 E.2.2.2.2 V 0 0
def c6_keep (E : eT)  (V : vT) (k : Int32 → vT → Prop) : Prop := MOk E.1 E.2.1 1 yX6_keep cX6_keep 1 (some .int) [vr 214] E.2.2.1 E.2.2.2.1 E.2.2.2.2 V 0 0 (QI E.2.2.1 E.2.2.2.1 E.2.2.2.2 k)
def w6_undo (E : eT) (Q : Int32 → vT → Prop) (pc : Nat) (ls : List (Option aV)) (st : List aV) (V : vT) : Prop := wp E.1 E.2.1 (rmQ 3 0 0) "InsuredFlameModel" "undo" cX6_undo 2 (some .boolean) (Zm E.2.1 0 0 (QI E.2.2.1 E.2.2.2.1 E.2.2.2.2 Q)) pc ls st E.2.2.1 E.2.2.2.1 E.2.2.2.2 V 0 0
def c6_undo (E : eT)  (V : vT) (k : Int32 → vT → Prop) : Prop := MOk E.1 E.2.1 3 yX6_undo cX6_undo 2 (some .boolean) [vr 214] E.2.2.1 E.2.2.2.1 E.2.2.2.2 V 0 0 (QI E.2.2.1 E.2.2.2.1 E.2.2.2.2 k)
def w6_check (E : eT) (Q : Int32 → vT → Prop) (pc : Nat) (ls : List (Option aV)) (st : List aV) (V : vT) : Prop := wp E.1 E.2.1 (rmQ 2 0 0) "InsuredFlameModel" "check" cX6_check 3 (some .int) (Zm E.2.1 0 0 (QI E.2.2.1 E.2.2.2.1 E.2.2.2.2 Q)) pc ls st E.2.2.1 E.2.2.2.1 E.2.2.2.2 V 0 0
def c6_check (E : eT) (x1 : Int32) (V : vT) (k : Int32 → vT → Prop) : Prop := MOk E.1 E.2.1 2 yX6_check cX6_check 3 (some .int) [vr 214, vi x1] E.2.2.1 E.2.2.2.1 E.2.2.2.2 V 0 0 (QI E.2.2.1 E.2.2.2.1 E.2.2.2.2 k)
def w6_count (E : eT) (Q : Int32 → vT → Prop) (pc : Nat) (ls : List (Option aV)) (st : List aV) (V : vT) : Prop := wp E.1 E.2.1 (rmQ 4 0 0) "InsuredFlameModel" "count" cX6_count 2 (some .int) (Zm E.2.1 0 0 (QI E.2.2.1 E.2.2.2.1 E.2.2.2.2 Q)) pc ls st E.2.2.1 E.2.2.2.1 E.2.2.2.2 V 0 0
def c6_count (E : eT) (x1 : Int32) (V : vT) (k : Int32 → vT → Prop) : Prop := MOk E.1 E.2.1 4 yX6_count cX6_count 2 (some .int) [vr 214, vi x1] E.2.2.1 E.2.2.2.1 E.2.2.2.2 V 0 0 (QI E.2.2.1 E.2.2.2.1 E.2.2.2.2 k)
def w6_toldSet (E : eT) (Q : Int32 → vT → Prop) (pc : Nat) (ls : List (Option aV)) (st : List aV) (V : vT) : Prop := wp E.1 E.2.1 (rmQ 2 0 0) "InsuredFlameModel" "toldSet" cX6_toldSet 3 (some .int) (Zm E.2.1 0 0 (QI E.2.2.1 E.2.2.2.1 E.2.2.2.2 Q)) pc ls st E.2.2.1 E.2.2.2.1 E.2.2.2.2 V 0 0
def c6_toldSet (E : eT)  (V : vT) (k : Int32 → vT → Prop) : Prop := MOk E.1 E.2.1 2 yX6_toldSet cX6_toldSet 3 (some .int) [vr 214] E.2.2.1 E.2.2.2.1 E.2.2.2.2 V 0 0 (QI E.2.2.1 E.2.2.2.1 E.2.2.2.2 k)
def w6_lostAll (E : eT) (Q : Int32 → vT → Prop) (pc : Nat) (ls : List (Option aV)) (st : List aV) (V : vT) : Prop := wp E.1 E.2.1 (rmQ 3 0 0) "InsuredFlameModel" "lostAll" cX6_lostAll 3 (some .int) (Zm E.2.1 0 0 (QI E.2.2.1 E.2.2.2.1 E.2.2.2.2 Q)) pc ls st E.2.2.1 E.2.2.2.1 E.2.2.2.2 V 0 0
def c6_lostAll (E : eT)  (V : vT) (k : Int32 → vT → Prop) : Prop := MOk E.1 E.2.1 3 yX6_lostAll cX6_lostAll 3 (some .int) [vr 214] E.2.2.1 E.2.2.2.1 E.2.2.2.2 V 0 0 (QI E.2.2.1 E.2.2.2.1 E.2.2.2.2 k)
