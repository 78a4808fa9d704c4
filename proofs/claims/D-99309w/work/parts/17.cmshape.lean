/-! THE COMPONENT: where its objects and arrays stand (names 16..213, and the law's text), what its classes' entries link to -/
theorem nst {w : Cond} (h : w ∈ lw_tbl) (hn : isNest w = true) : w ∈ nestQ := List.mem_filter.mpr ⟨h, hn⟩
/-- a fire at f: its arrays behind it, its things behind them -/
def FO (E : eT) (f : Nat) : Prop := (16 ≤ f ∧ f + 29 ≤ E.2.2.1) ∧ E.2.2.2.1 f = .inl 2 ∧ E.2.2.2.1 (f + 1) = .inr (0, 96) ∧ E.2.2.2.1 (f + 2) = .inr (0, 96) ∧ E.2.2.2.1 (f + 3) = .inr (2, 96) ∧ E.2.2.2.1 (f + 4) = .inr (3, 24) ∧
  E.2.2.2.2 f 0 = some (f + 1) ∧ E.2.2.2.2 f 1 = some (f + 2) ∧ E.2.2.2.2 f 2 = some (f + 3) ∧ E.2.2.2.2 f 3 = some (f + 4) ∧ E.2.2.2.2 f 7 = some 16 ∧ ∀ i, i < 24 → E.2.2.2.2 (f + 4) i = some (f + 5 + i) ∧ E.2.2.2.1 (f + 5 + i) = .inl 3
/-- a text at t -/
def TX (E : eT) (t : Nat) : Prop := (16 ≤ t ∧ t + 4 ≤ E.2.2.1) ∧ E.2.2.2.1 t = .inl 4 ∧ E.2.2.2.1 (t + 1) = .inr (0, 16) ∧ E.2.2.2.1 (t + 2) = .inr (4, 16) ∧ E.2.2.2.1 (t + 3) = .inr (5, 16) ∧ E.2.2.2.2 t 0 = some (t + 1) ∧ E.2.2.2.2 t 1 = some (t + 2) ∧ E.2.2.2.2 t 2 = some (t + 3)
def SV (E : eT) (o : Nat) : Prop := (16 ≤ o ∧ o + 2 ≤ E.2.2.1) ∧ E.2.2.2.1 o = .inl 13 ∧ E.2.2.2.1 (o + 1) = .inr (0, 96) ∧ E.2.2.2.2 o 4 = some 16 ∧ E.2.2.2.2 o 5 = some (o + 1) ∧ E.2.2.2.2 o 8 = some 16
def CL (E : eT) (o : Nat) : Prop := (16 ≤ o ∧ o + 2 ≤ E.2.2.1) ∧ E.2.2.2.1 o = .inl 14 ∧ E.2.2.2.1 (o + 1) = .inr (2, 96) ∧ E.2.2.2.2 o 4 = some 16 ∧ E.2.2.2.2 o 5 = some (o + 1) ∧ E.2.2.2.2 o 7 = some 16
def RD (E : eT) (o : Nat) : Prop := (16 ≤ o ∧ o + 5 ≤ E.2.2.1) ∧ E.2.2.2.1 o = .inl 6 ∧ E.2.2.2.2 o 1 = some (o + 1) ∧ E.2.2.2.2 o 6 = some 16 ∧ TX E (o + 1)
/-- a String of ln bytes at o, its bytes at o + 3 -/
def STR (E : eT) (o ln : Nat) : Prop := (o < 16 ∧ o + 3 < 16 ∧ 245 ≤ E.2.2.1) ∧ E.2.2.2.1 o = .inl 99 ∧ E.2.2.2.2 o 0 = some (o + 3) ∧ E.2.2.2.1 (o + 3) = .inr (1, ln)
def cmKs : List (Nat × (Nat ⊕ (Nat × Nat))) := [(1, .inr (0, 4)), (2, .inr (0, 4)), (16, .inl 0), (18, .inl 1), (17, .inr (0, 96)), (106, .inr (1, 260)), (111, .inr (0, 96)), (112, .inr (6, 96)), (209, .inr (2, 96)), (210, .inr (0, 192)), (211, .inr (0, 192)), (212, .inr (0, 96)), (213, .inr (0, 10))]
def cmRs : List (Nat × Nat) := [(0, 17), (5, 106), (9, 111), (10, 112), (11, 209), (12, 210), (13, 211), (15, 212), (16, 213), (1, 18), (2, 19), (3, 48), (4, 77)]
def CM (E : eT) (tl : Nat) : Prop := 245 ≤ E.2.2.1 ∧ (∀ q ∈ cmKs, E.2.2.2.1 q.1 = q.2) ∧ (∀ q ∈ cmRs, E.2.2.2.2 16 q.1 = some q.2) ∧ (FO E 19 ∧ FO E 48 ∧ FO E 77) ∧ (∀ i, i < 96 → E.2.2.2.2 112 i = some (113 + i) ∧ E.2.2.2.1 (113 + i) = .inr (2, 4)) ∧ E.2.2.2.2 16 6 = some tl ∧ TX E tl ∧ STR E 3 9 ∧ STR E 4 3 ∧ STR E 5 4
section CMS
variable {E : eT} {tl f o i : Nat}
theorem FO.b0 (h : FO E f) : 16 ≤ f ∧ f < E.2.2.1 := ⟨h.1.1, by have := h.1.2; omega⟩
theorem FO.b1 (h : FO E f) : 16 ≤ f + 1 ∧ f + 1 < E.2.2.1 := by have := h.1; omega
theorem FO.b2 (h : FO E f) : 16 ≤ f + 2 ∧ f + 2 < E.2.2.1 := by have := h.1; omega
theorem FO.b3 (h : FO E f) : 16 ≤ f + 3 ∧ f + 3 < E.2.2.1 := by have := h.1; omega
theorem FO.b4 (h : FO E f) : 16 ≤ f + 4 ∧ f + 4 < E.2.2.1 := by have := h.1; omega
theorem FO.bt (h : FO E f) (hi : i < 24) : 16 ≤ f + 5 + i ∧ f + 5 + i < E.2.2.1 := by have := h.1; omega
theorem FO.k0 (h : FO E f) : E.2.2.2.1 f = .inl 2 := h.2.1
theorem FO.k1 (h : FO E f) : E.2.2.2.1 (f + 1) = .inr (0, 96) := h.2.2.1
theorem FO.k2 (h : FO E f) : E.2.2.2.1 (f + 2) = .inr (0, 96) := h.2.2.2.1
theorem FO.k3 (h : FO E f) : E.2.2.2.1 (f + 3) = .inr (2, 96) := h.2.2.2.2.1
theorem FO.k4 (h : FO E f) : E.2.2.2.1 (f + 4) = .inr (3, 24) := h.2.2.2.2.2.1
theorem FO.kt (h : FO E f) (hi : i < 24) : E.2.2.2.1 (f + 5 + i) = .inl 3 := (h.2.2.2.2.2.2.2.2.2.2.2 i hi).2
theorem FO.r0 (h : FO E f) : E.2.2.2.2 f 0 = some (f + 1) := h.2.2.2.2.2.2.1
theorem FO.r1 (h : FO E f) : E.2.2.2.2 f 1 = some (f + 2) := h.2.2.2.2.2.2.2.1
theorem FO.r2 (h : FO E f) : E.2.2.2.2 f 2 = some (f + 3) := h.2.2.2.2.2.2.2.2.1
theorem FO.r3 (h : FO E f) : E.2.2.2.2 f 3 = some (f + 4) := h.2.2.2.2.2.2.2.2.2.1
theorem FO.r7 (h : FO E f) : E.2.2.2.2 f 7 = some 16 := h.2.2.2.2.2.2.2.2.2.2.1
theorem FO.rt (h : FO E f) (hi : i < 24) : E.2.2.2.2 (f + 4) i = some (f + 5 + i) := (h.2.2.2.2.2.2.2.2.2.2.2 i hi).1
theorem TX.b0 (h : TX E o) : 16 ≤ o ∧ o < E.2.2.1 := by have := h.1; omega
theorem TX.b1 (h : TX E o) : 16 ≤ o + 1 ∧ o + 1 < E.2.2.1 := by have := h.1; omega
theorem TX.b2 (h : TX E o) : 16 ≤ o + 2 ∧ o + 2 < E.2.2.1 := by have := h.1; omega
theorem TX.b3 (h : TX E o) : 16 ≤ o + 3 ∧ o + 3 < E.2.2.1 := by have := h.1; omega
theorem TX.k0 (h : TX E o) : E.2.2.2.1 o = .inl 4 := h.2.1
theorem TX.k1 (h : TX E o) : E.2.2.2.1 (o + 1) = .inr (0, 16) := h.2.2.1
theorem TX.k2 (h : TX E o) : E.2.2.2.1 (o + 2) = .inr (4, 16) := h.2.2.2.1
theorem TX.k3 (h : TX E o) : E.2.2.2.1 (o + 3) = .inr (5, 16) := h.2.2.2.2.1
theorem TX.r0 (h : TX E o) : E.2.2.2.2 o 0 = some (o + 1) := h.2.2.2.2.2.1
theorem TX.r1 (h : TX E o) : E.2.2.2.2 o 1 = some (o + 2) := h.2.2.2.2.2.2.1
theorem TX.r2 (h : TX E o) : E.2.2.2.2 o 2 = some (o + 3) := h.2.2.2.2.2.2.2
theorem RD.b0 (h : RD E o) : 16 ≤ o ∧ o < E.2.2.1 := by have := h.1; omega
theorem RD.k0 (h : RD E o) : E.2.2.2.1 o = .inl 6 := h.2.1
theorem RD.r1 (h : RD E o) : E.2.2.2.2 o 1 = some (o + 1) := h.2.2.1
theorem RD.r6 (h : RD E o) : E.2.2.2.2 o 6 = some 16 := h.2.2.2.1
theorem RD.tx (h : RD E o) : TX E (o + 1) := h.2.2.2.2
theorem STR.b {ln : Nat} (h : STR E o ln) : o < 16 ∧ o < E.2.2.1 := by have := h.1; omega
theorem STR.k {ln : Nat} (h : STR E o ln) : E.2.2.2.1 o = .inl 99 := h.2.1
theorem STR.v {ln : Nat} (h : STR E o ln) : E.2.2.2.2 o 0 = some (o + 3) := h.2.2.1
theorem STR.vb {ln : Nat} (h : STR E o ln) : 0 ≤ o + 3 ∧ o + 3 < E.2.2.1 := by have := h.1; omega
theorem STR.vk {ln : Nat} (h : STR E o ln) : E.2.2.2.1 (o + 3) = .inr (1, ln) := h.2.2.2
theorem SV.b0 (h : SV E o) : 16 ≤ o ∧ o < E.2.2.1 := by have := h.1; omega
theorem SV.b1 (h : SV E o) : 16 ≤ o + 1 ∧ o + 1 < E.2.2.1 := by have := h.1; omega
theorem SV.k0 (h : SV E o) : E.2.2.2.1 o = .inl 13 := h.2.1
theorem SV.k1 (h : SV E o) : E.2.2.2.1 (o + 1) = .inr (0, 96) := h.2.2.1
theorem SV.r4 (h : SV E o) : E.2.2.2.2 o 4 = some 16 := h.2.2.2.1
theorem SV.r5 (h : SV E o) : E.2.2.2.2 o 5 = some (o + 1) := h.2.2.2.2.1
theorem SV.r8 (h : SV E o) : E.2.2.2.2 o 8 = some 16 := h.2.2.2.2.2
theorem CL.b0 (h : CL E o) : 16 ≤ o ∧ o < E.2.2.1 := by have := h.1; omega
theorem CL.b1 (h : CL E o) : 16 ≤ o + 1 ∧ o + 1 < E.2.2.1 := by have := h.1; omega
theorem CL.k0 (h : CL E o) : E.2.2.2.1 o = .inl 14 := h.2.1
theorem CL.k1 (h : CL E o) : E.2.2.2.1 (o + 1) = .inr (2, 96) := h.2.2.1
theorem CL.r4 (h : CL E o) : E.2.2.2.2 o 4 = some 16 := h.2.2.2.1
theorem CL.r5 (h : CL E o) : E.2.2.2.2 o 5 = some (o + 1) := h.2.2.2.2.1
theorem CL.r7 (h : CL E o) : E.2.2.2.2 o 7 = some 16 := h.2.2.2.2.2
theorem cf_19 (h : CM E tl) : FO E 19 := h.2.2.2.1.1
theorem cf_48 (h : CM E tl) : FO E 48 := h.2.2.2.1.2.1
theorem cf_77 (h : CM E tl) : FO E 77 := h.2.2.2.1.2.2
theorem cgr (h : CM E tl) (hi : i < 96) : E.2.2.2.2 112 i = some (113 + i) := (h.2.2.2.2.1 i hi).1
theorem cgk (h : CM E tl) (hi : i < 96) : E.2.2.2.1 (113 + i) = .inr (2, 4) := (h.2.2.2.2.1 i hi).2
theorem cgb (h : CM E tl) (hi : i < 96) : 16 ≤ 113 + i ∧ 113 + i < E.2.2.1 := by have := h.1; omega
theorem claw (h : CM E tl) : E.2.2.2.2 16 6 = some tl := h.2.2.2.2.2.1
theorem ctx (h : CM E tl) : TX E tl := h.2.2.2.2.2.2.1
theorem cstr_3 (h : CM E tl) : STR E 3 9 := h.2.2.2.2.2.2.2.1
theorem cstr_4 (h : CM E tl) : STR E 4 3 := h.2.2.2.2.2.2.2.2.1
theorem cstr_5 (h : CM E tl) : STR E 5 4 := h.2.2.2.2.2.2.2.2.2
theorem ck_1 (h : CM E tl) : E.2.2.2.1 1 = .inr (0, 4) := h.2.1 (1, .inr (0, 4)) (List.mem_of_getElem? (i := 0) rfl)
theorem cb_1 (h : CM E tl) : 0 ≤ 1 ∧ 1 < E.2.2.1 := ⟨by decide, Nat.lt_of_lt_of_le (by decide) h.1⟩
theorem ck_2 (h : CM E tl) : E.2.2.2.1 2 = .inr (0, 4) := h.2.1 (2, .inr (0, 4)) (List.mem_of_getElem? (i := 1) rfl)
theorem cb_2 (h : CM E tl) : 0 ≤ 2 ∧ 2 < E.2.2.1 := ⟨by decide, Nat.lt_of_lt_of_le (by decide) h.1⟩
theorem ck_16 (h : CM E tl) : E.2.2.2.1 16 = .inl 0 := h.2.1 (16, .inl 0) (List.mem_of_getElem? (i := 2) rfl)
theorem cb_16 (h : CM E tl) : 16 ≤ 16 ∧ 16 < E.2.2.1 := ⟨by decide, Nat.lt_of_lt_of_le (by decide) h.1⟩
theorem ck_18 (h : CM E tl) : E.2.2.2.1 18 = .inl 1 := h.2.1 (18, .inl 1) (List.mem_of_getElem? (i := 3) rfl)
theorem cb_18 (h : CM E tl) : 16 ≤ 18 ∧ 18 < E.2.2.1 := ⟨by decide, Nat.lt_of_lt_of_le (by decide) h.1⟩
theorem ck_17 (h : CM E tl) : E.2.2.2.1 17 = .inr (0, 96) := h.2.1 (17, .inr (0, 96)) (List.mem_of_getElem? (i := 4) rfl)
theorem cb_17 (h : CM E tl) : 16 ≤ 17 ∧ 17 < E.2.2.1 := ⟨by decide, Nat.lt_of_lt_of_le (by decide) h.1⟩
theorem ck_106 (h : CM E tl) : E.2.2.2.1 106 = .inr (1, 260) := h.2.1 (106, .inr (1, 260)) (List.mem_of_getElem? (i := 5) rfl)
theorem cb_106 (h : CM E tl) : 16 ≤ 106 ∧ 106 < E.2.2.1 := ⟨by decide, Nat.lt_of_lt_of_le (by decide) h.1⟩
theorem ck_111 (h : CM E tl) : E.2.2.2.1 111 = .inr (0, 96) := h.2.1 (111, .inr (0, 96)) (List.mem_of_getElem? (i := 6) rfl)
theorem cb_111 (h : CM E tl) : 16 ≤ 111 ∧ 111 < E.2.2.1 := ⟨by decide, Nat.lt_of_lt_of_le (by decide) h.1⟩
theorem ck_112 (h : CM E tl) : E.2.2.2.1 112 = .inr (6, 96) := h.2.1 (112, .inr (6, 96)) (List.mem_of_getElem? (i := 7) rfl)
theorem cb_112 (h : CM E tl) : 16 ≤ 112 ∧ 112 < E.2.2.1 := ⟨by decide, Nat.lt_of_lt_of_le (by decide) h.1⟩
theorem ck_209 (h : CM E tl) : E.2.2.2.1 209 = .inr (2, 96) := h.2.1 (209, .inr (2, 96)) (List.mem_of_getElem? (i := 8) rfl)
theorem cb_209 (h : CM E tl) : 16 ≤ 209 ∧ 209 < E.2.2.1 := ⟨by decide, Nat.lt_of_lt_of_le (by decide) h.1⟩
theorem ck_210 (h : CM E tl) : E.2.2.2.1 210 = .inr (0, 192) := h.2.1 (210, .inr (0, 192)) (List.mem_of_getElem? (i := 9) rfl)
theorem cb_210 (h : CM E tl) : 16 ≤ 210 ∧ 210 < E.2.2.1 := ⟨by decide, Nat.lt_of_lt_of_le (by decide) h.1⟩
theorem ck_211 (h : CM E tl) : E.2.2.2.1 211 = .inr (0, 192) := h.2.1 (211, .inr (0, 192)) (List.mem_of_getElem? (i := 10) rfl)
theorem cb_211 (h : CM E tl) : 16 ≤ 211 ∧ 211 < E.2.2.1 := ⟨by decide, Nat.lt_of_lt_of_le (by decide) h.1⟩
theorem ck_212 (h : CM E tl) : E.2.2.2.1 212 = .inr (0, 96) := h.2.1 (212, .inr (0, 96)) (List.mem_of_getElem? (i := 11) rfl)
theorem cb_212 (h : CM E tl) : 16 ≤ 212 ∧ 212 < E.2.2.1 := ⟨by decide, Nat.lt_of_lt_of_le (by decide) h.1⟩
theorem ck_213 (h : CM E tl) : E.2.2.2.1 213 = .inr (0, 10) := h.2.1 (213, .inr (0, 10)) (List.mem_of_getElem? (i := 12) rfl)
theorem cb_213 (h : CM E tl) : 16 ≤ 213 ∧ 213 < E.2.2.1 := ⟨by decide, Nat.lt_of_lt_of_le (by decide) h.1⟩
theorem cr_0 (h : CM E tl) : E.2.2.2.2 16 0 = some 17 := h.2.2.1 (0, 17) (List.mem_of_getElem? (i := 0) rfl)
theorem cr_5 (h : CM E tl) : E.2.2.2.2 16 5 = some 106 := h.2.2.1 (5, 106) (List.mem_of_getElem? (i := 1) rfl)
theorem cr_9 (h : CM E tl) : E.2.2.2.2 16 9 = some 111 := h.2.2.1 (9, 111) (List.mem_of_getElem? (i := 2) rfl)
theorem cr_10 (h : CM E tl) : E.2.2.2.2 16 10 = some 112 := h.2.2.1 (10, 112) (List.mem_of_getElem? (i := 3) rfl)
theorem cr_11 (h : CM E tl) : E.2.2.2.2 16 11 = some 209 := h.2.2.1 (11, 209) (List.mem_of_getElem? (i := 4) rfl)
theorem cr_12 (h : CM E tl) : E.2.2.2.2 16 12 = some 210 := h.2.2.1 (12, 210) (List.mem_of_getElem? (i := 5) rfl)
theorem cr_13 (h : CM E tl) : E.2.2.2.2 16 13 = some 211 := h.2.2.1 (13, 211) (List.mem_of_getElem? (i := 6) rfl)
theorem cr_15 (h : CM E tl) : E.2.2.2.2 16 15 = some 212 := h.2.2.1 (15, 212) (List.mem_of_getElem? (i := 7) rfl)
theorem cr_16 (h : CM E tl) : E.2.2.2.2 16 16 = some 213 := h.2.2.1 (16, 213) (List.mem_of_getElem? (i := 8) rfl)
theorem cr_1 (h : CM E tl) : E.2.2.2.2 16 1 = some 18 := h.2.2.1 (1, 18) (List.mem_of_getElem? (i := 9) rfl)
theorem cr_2 (h : CM E tl) : E.2.2.2.2 16 2 = some 19 := h.2.2.1 (2, 19) (List.mem_of_getElem? (i := 10) rfl)
theorem cr_3 (h : CM E tl) : E.2.2.2.2 16 3 = some 48 := h.2.2.1 (3, 48) (List.mem_of_getElem? (i := 11) rfl)
theorem cr_4 (h : CM E tl) : E.2.2.2.2 16 4 = some 77 := h.2.2.1 (4, 77) (List.mem_of_getElem? (i := 12) rfl)
end CMS
theorem pn_X0 : plainName "InsuredFlame" = true := by decide
theorem pn_X1 : plainName "InsuredFlame$Asked" = true := by decide
theorem pn_X2 : plainName "InsuredFlame$Moment" = true := by decide
theorem pn_X3 : plainName "InsuredFlame$Fire" = true := by decide
theorem pn_X4 : plainName "InsuredFlame$Thing" = true := by decide
theorem pn_X5 : plainName "InsuredFlame$Text" = true := by decide
theorem pn_X6 : plainName "InsuredFlameModel" = true := by decide
theorem pn_X7 : plainName "InsuredFlame$Reader" = true := by decide
theorem pn_X8 : plainName "InsuredFlame$Sum" = true := by decide
theorem pn_X9 : plainName "InsuredFlame$Row" = true := by decide
theorem pn_X10 : plainName "InsuredFlame$Number" = true := by decide
theorem pn_X11 : plainName "InsuredFlame$Letter" = true := by decide
theorem pn_X12 : plainName "InsuredFlame$Condition" = true := by decide
theorem pn_X13 : plainName "InsuredFlame$Some" = true := by decide
theorem pn_X14 : plainName "InsuredFlame$Not" = true := by decide
theorem pn_X15 : plainName "InsuredFlame$Compared" = true := by decide
theorem pn_X16 : plainName "InsuredFlame$Scribe" = true := by decide
theorem pn_X17 : plainName "InsuredFlame$Surveyor" = true := by decide
theorem pn_X18 : plainName "InsuredFlame$Clerk" = true := by decide
theorem pn_J0 : plainName "java/lang/String" = true := by decide
theorem pn_J1 : plainName "java/lang/StringLatin1" = true := by decide
theorem pn_J6 : plainName "java/lang/Integer" = true := by decide
theorem fk0_106_0 : FLk "InsuredFlame" 106 0 7 := ⟨_, _, _, rfl, by decide, in_X0, tyX0_ok, Or.inl q314⟩
theorem lk0_109 : LkV "InsuredFlame" 109 "InsuredFlame" yX0_push cX0_push 3 none 1 := ⟨q363, q365, qs0, q114, q366, by decide +kernel⟩
theorem fk0_57_0 : FLk "InsuredFlame" 57 0 5 := ⟨_, _, _, rfl, by decide, in_X0, tyX0_ok, Or.inl q311⟩
theorem fp0_106_0 {nm : String} : FPk "InsuredFlame" nm 106 0 7 := ⟨_, _, _, rfl, by decide, in_X0, tyX0_ok, Or.inl ⟨rfl, Or.inl q314⟩, fun j hj hne => nmX0 j hj 7 (by decide) hne⟩
theorem fk0_47_0 : FLk "InsuredFlame" 47 0 2 := ⟨_, _, _, rfl, by decide, in_X0, tyX0_ok, Or.inl q305⟩
theorem lk0_154 : LkV "InsuredFlame" 154 "InsuredFlame$Fire" yX3_those cX3_those 4 (some .int) 1 := ⟨q975, q976, q977, q117, q978, by decide +kernel⟩
theorem lk0_150 : LkV "InsuredFlame" 150 "InsuredFlame$Fire" yX3_goes cX3_goes 3 (some (.object "InsuredFlame$Fire")) 1 := ⟨q854, q855, q856, q117, q857, by decide +kernel⟩
theorem lk0_113 : LkS "InsuredFlame" 113 yX0_within cX0_within 3 (some .boolean) 3 := ⟨q371, q372, q114, q373, by decide +kernel⟩
theorem lk0_23 : LkS "InsuredFlame" 23 yX0_placeAt cX0_placeAt 2 (some .int) 2 := ⟨q881, q882, q114, q883, by decide +kernel⟩
theorem lk0_12 : LkS "InsuredFlame" 12 yX0_in cX0_in 2 (some .boolean) 2 := ⟨q884, q885, q114, q886, by decide +kernel⟩
theorem fk0_51_0 : FLk "InsuredFlame" 51 0 3 := ⟨_, _, _, rfl, by decide, in_X0, tyX0_ok, Or.inl q307⟩
theorem lk0_164 : LkV "InsuredFlame" 164 "InsuredFlame$Fire" yX3_lost cX3_lost 6 (some .int) 0 := ⟨q983, q984, q985, q117, q986, by decide +kernel⟩
theorem lk0_167 : LkV "InsuredFlame" 167 "InsuredFlame$Fire" yX3_gone cX3_gone 3 (some .int) 0 := ⟨q987, q988, q989, q117, q990, by decide +kernel⟩
theorem lk0_169 : LkV "InsuredFlame" 169 "InsuredFlame" yX0_sumsLeft cX0_sumsLeft 3 (some .int) 0 := ⟨q991, q993, qs28, q114, q994, by decide +kernel⟩
theorem lk0_139 : LkV "InsuredFlame" 139 "InsuredFlame$Fire" yX3_takes cX3_takes 3 (some (.object "InsuredFlame$Fire")) 1 := ⟨q760, q761, q762, q117, q763, by decide +kernel⟩
theorem fk0_158_2 : FLk "InsuredFlame" 158 2 0 := ⟨_, _, _, rfl, by decide, in_X3, tyX3_ok, Or.inr ⟨_, nst q237 rfl⟩⟩
theorem lk0_161 : LkV "InsuredFlame" 161 "InsuredFlame$Fire" yX3_sumsAt cX3_sumsAt 7 (some .int) 1 := ⟨q995, q900, q901, q117, q902, by decide +kernel⟩
theorem fk0_32_0 : FLk "InsuredFlame" 32 0 0 := ⟨_, _, _, rfl, by decide, in_X0, tyX0_ok, Or.inl q302⟩
theorem fk0_172_2 : FLk "InsuredFlame" 172 2 1 := ⟨_, _, _, rfl, by decide, in_X3, tyX3_ok, Or.inr ⟨_, nst q239 rfl⟩⟩
theorem lk0_175 : LkV "InsuredFlame" 175 "InsuredFlame$Fire" yX3_thingsAt cX3_thingsAt 4 (some .int) 1 := ⟨q1000, q1001, q1002, q117, q1003, by decide +kernel⟩
theorem lk0_178 : LkV "InsuredFlame" 178 "InsuredFlame$Fire" yX3_valueAt cX3_valueAt 7 (some .int) 1 := ⟨q1004, q896, q897, q117, q898, by decide +kernel⟩
theorem fk0_96_2 : FLk "InsuredFlame" 96 2 3 := ⟨_, _, _, rfl, by decide, in_X3, tyX3_ok, Or.inr ⟨_, nst q243 rfl⟩⟩
theorem fk0_185_3 : FLk "InsuredFlame" 185 3 0 := ⟨_, _, _, rfl, by decide, in_X4, tyX4_ok, Or.inr ⟨_, nst q206 rfl⟩⟩
theorem fk0_188_3 : FLk "InsuredFlame" 188 3 1 := ⟨_, _, _, rfl, by decide, in_X4, tyX4_ok, Or.inr ⟨_, nst q210 rfl⟩⟩
theorem fk0_191_3 : FLk "InsuredFlame" 191 3 2 := ⟨_, _, _, rfl, by decide, in_X4, tyX4_ok, Or.inr ⟨_, nst q214 rfl⟩⟩
theorem fk0_194_3 : FLk "InsuredFlame" 194 3 4 := ⟨_, _, _, rfl, by decide, in_X4, tyX4_ok, Or.inr ⟨_, nst q222 rfl⟩⟩
theorem lk0_197 : LkV "InsuredFlame" 197 "InsuredFlame$Thing" yX4_paid cX4_paid 1 (some .int) 0 := ⟨q1013, q1014, q1015, q118, q1016, by decide +kernel⟩
theorem lk0_181 : LkV "InsuredFlame" 181 "InsuredFlame" yX0_isThing cX0_isThing 2 (some .boolean) 1 := ⟨q1009, q1011, qs29, q114, q1012, by decide +kernel⟩
theorem fk0_100_3 : FLk "InsuredFlame" 100 3 3 := ⟨_, _, _, rfl, by decide, in_X4, tyX4_ok, Or.inr ⟨_, nst q217 rfl⟩⟩
theorem fk0_200_2 : FLk "InsuredFlame" 200 2 5 := ⟨_, _, _, rfl, by decide, in_X3, tyX3_ok, Or.inr ⟨_, nst q248 rfl⟩⟩
theorem lk0_203 : LkV "InsuredFlame" 203 "InsuredFlame$Fire" yX3_minuteGoes cX3_minuteGoes 2 none 0 := ⟨q1021, q859, q860, q117, q861, by decide +kernel⟩
theorem fk0_68_0 : FLk "InsuredFlame" 68 0 9 := ⟨_, _, _, rfl, by decide, in_X0, tyX0_ok, Or.inl q316⟩
theorem lk0_216 : LkV "InsuredFlame" 216 "InsuredFlame" yX0_laysFrom cX0_laysFrom 3 none 1 := ⟨q1034, q1036, qs31, q114, q1037, by decide +kernel⟩
theorem lk0_213 : LkV "InsuredFlame" 213 "InsuredFlame" yX0_isWood cX0_isWood 2 (some .boolean) 1 := ⟨q1030, q1032, qs30, q114, q1033, by decide +kernel⟩
theorem lk0_210 : LkV "InsuredFlame" 210 "InsuredFlame" yX0_spreads cX0_spreads 6 none 0 := ⟨q1039, q1041, qs32, q114, q1042, by decide +kernel⟩
theorem lk0_206 : LkS "InsuredFlame" 206 yX0_next cX0_next 2 (some .int) 2 := ⟨q1043, q875, q114, q876, by decide +kernel⟩
theorem lk0_219 : LkV "InsuredFlame" 219 "InsuredFlame" yX0_isSo cX0_isSo 3 (some .boolean) 1 := ⟨q1048, q1050, qs33, q114, q1051, by decide +kernel⟩
theorem fk0_76_0 : FLk "InsuredFlame" 76 0 11 := ⟨_, _, _, rfl, by decide, in_X0, tyX0_ok, Or.inl q318⟩
theorem fk0_73_0 : FLk "InsuredFlame" 73 0 10 := ⟨_, _, _, rfl, by decide, in_X0, tyX0_ok, Or.inl q317⟩
theorem lk0_238 : LkV "InsuredFlame" 238 "InsuredFlame" yX0_turns cX0_turns 6 none 2 := ⟨q1068, q1070, qs37, q114, q1071, by decide +kernel⟩
theorem lk0_235 : LkV "InsuredFlame" 235 "InsuredFlame" yX0_finds cX0_finds 4 (some .boolean) 2 := ⟨q1056, q1058, qs34, q114, q1059, by decide +kernel⟩
theorem fp0_222_0 {nm : String} : FPk "InsuredFlame" nm 222 0 14 := ⟨_, _, _, rfl, by decide, in_X0, tyX0_ok, Or.inl ⟨rfl, Or.inl q321⟩, fun j hj hne => nmX0 j hj 14 (by decide) hne⟩
theorem fk0_80_0 : FLk "InsuredFlame" 80 0 12 := ⟨_, _, _, rfl, by decide, in_X0, tyX0_ok, Or.inl q319⟩
theorem lk0_225 : LkV "InsuredFlame" 225 "InsuredFlame" yX0_reaches cX0_reaches 3 none 2 := ⟨q1060, q1062, qs35, q114, q1063, by decide +kernel⟩
theorem fk0_222_0 : FLk "InsuredFlame" 222 0 14 := ⟨_, _, _, rfl, by decide, in_X0, tyX0_ok, Or.inl q321⟩
theorem fk0_83_0 : FLk "InsuredFlame" 83 0 13 := ⟨_, _, _, rfl, by decide, in_X0, tyX0_ok, Or.inl q320⟩
theorem lk0_229 : LkV "InsuredFlame" 229 "InsuredFlame" yX0_looksFrom cX0_looksFrom 6 none 1 := ⟨q1064, q1066, qs36, q114, q1067, by decide +kernel⟩
theorem lk0_232 : LkV "InsuredFlame" 232 "InsuredFlame" yX0_wayTo cX0_wayTo 4 (some .int) 2 := ⟨q1072, q1074, qs38, q114, q1075, by decide +kernel⟩
theorem lk0_241 : LkV "InsuredFlame" 241 "InsuredFlame" yX0_laysFromBurning cX0_laysFromBurning 2 none 0 := ⟨q1080, q1082, qs39, q114, q1083, by decide +kernel⟩
theorem fk0_86_0 : FLk "InsuredFlame" 86 0 15 := ⟨_, _, _, rfl, by decide, in_X0, tyX0_ok, Or.inl q322⟩
theorem lk0_244 : LkS "InsuredFlame" 244 yX0_isEdge cX0_isEdge 1 (some .boolean) 1 := ⟨q1084, q1085, q114, q1086, by decide +kernel⟩
theorem lk0_253 : LkV "InsuredFlame" 253 "InsuredFlame" yX0_sumOf cX0_sumOf 7 (some .int) 4 := ⟨q1099, q1101, qs40, q114, q1102, by decide +kernel⟩
theorem lk0_250 : LkV "InsuredFlame" 250 "InsuredFlame" yX0_fed cX0_fed 2 (some .int) 1 := ⟨q1106, q1108, qs41, q114, q1109, by decide +kernel⟩
theorem lk0_247 : LkS "InsuredFlame" 247 yX0_has cX0_has 2 (some .boolean) 2 := ⟨q1103, q1104, q114, q1105, by decide +kernel⟩
theorem lk0_269 : LkS "InsuredFlame" 269 yJ6_bitCount cJ6_bitCount 1 (some .int) 1 := ⟨q1131, q1132, q139, q1133, by decide +kernel⟩
theorem lk0_266 : LkV "InsuredFlame" 266 "InsuredFlame" yX0_owedTo cX0_owedTo 6 (some .int) 3 := ⟨q1127, q1129, qs43, q114, q1130, by decide +kernel⟩
theorem lk0_262 : LkV "InsuredFlame" 262 "InsuredFlame" yX0_owedBy cX0_owedBy 6 (some .int) 3 := ⟨q1123, q1125, qs42, q114, q1126, by decide +kernel⟩
theorem lk0_274 : LkV "InsuredFlame" 274 "InsuredFlame" yX0_sorts cX0_sorts 4 none 1 := ⟨q1141, q1143, qs44, q114, q1144, by decide +kernel⟩
theorem lk0_277 : LkV "InsuredFlame" 277 "InsuredFlame" yX0_isInTime cX0_isInTime 5 (some .boolean) 2 := ⟨q1145, q1147, qs45, q114, q1148, by decide +kernel⟩
theorem fk0_89_0 : FLk "InsuredFlame" 89 0 16 := ⟨_, _, _, rfl, by decide, in_X0, tyX0_ok, Or.inl q323⟩
theorem fp0_92_2 {nm : String} : FPk "InsuredFlame" nm 92 2 6 := ⟨_, _, _, rfl, by decide, in_X3, tyX3_ok, Or.inl ⟨rfl, Or.inr ⟨_, nst q250 rfl⟩⟩, fun j hj hne => nmX3 j hj 6 (by decide) hne⟩
theorem fp0_281_0 {nm : String} : FPk "InsuredFlame" nm 281 0 8 := ⟨_, _, _, rfl, by decide, in_X0, tyX0_ok, Or.inl ⟨rfl, Or.inl q315⟩, fun j hj hne => nmX0 j hj 8 (by decide) hne⟩
theorem fk0_54_0 : FLk "InsuredFlame" 54 0 4 := ⟨_, _, _, rfl, by decide, in_X0, tyX0_ok, Or.inl q308⟩
theorem fk0_281_0 : FLk "InsuredFlame" 281 0 8 := ⟨_, _, _, rfl, by decide, in_X0, tyX0_ok, Or.inl q315⟩
theorem lk0_284 : LkV "InsuredFlame" 284 "InsuredFlame" yX0_toldThings cX0_toldThings 3 (some .int) 0 := ⟨q1174, q1176, qs46, q114, q1177, by decide +kernel⟩
theorem fk0_287_2 : FLk "InsuredFlame" 287 2 4 := ⟨_, _, _, rfl, by decide, in_X3, tyX3_ok, Or.inr ⟨_, nst q246 rfl⟩⟩
theorem fk0_64_0 : FLk "InsuredFlame" 64 0 6 := ⟨_, _, _, rfl, by decide, in_X0, tyX0_ok, Or.inl q312⟩
theorem fk0_290_4 : FLk "InsuredFlame" 290 4 3 := ⟨_, _, _, rfl, by decide, in_X5, tyX5_ok, Or.inr ⟨_, nst q287 rfl⟩⟩
theorem fk0_92_2 : FLk "InsuredFlame" 92 2 6 := ⟨_, _, _, rfl, by decide, in_X3, tyX3_ok, Or.inr ⟨_, nst q250 rfl⟩⟩
theorem fp2_9_1 {nm : String} : FPk "InsuredFlame$Moment" nm 9 1 1 := ⟨_, _, _, rfl, by decide, in_X2, tyX2_ok, Or.inl ⟨rfl, Or.inl q157⟩, fun j hj hne => nmX2 j hj 1 (by decide) hne⟩
theorem fp2_15_1 {nm : String} : FPk "InsuredFlame$Moment" nm 15 1 2 := ⟨_, _, _, rfl, by decide, in_X2, tyX2_ok, Or.inl ⟨rfl, Or.inl q158⟩, fun j hj hne => nmX2 j hj 2 (by decide) hne⟩
theorem fp2_18_1 {nm : String} : FPk "InsuredFlame$Moment" nm 18 1 3 := ⟨_, _, _, rfl, by decide, in_X2, tyX2_ok, Or.inl ⟨rfl, Or.inl q159⟩, fun j hj hne => nmX2 j hj 3 (by decide) hne⟩
theorem fp2_21_1 {nm : String} : FPk "InsuredFlame$Moment" nm 21 1 4 := ⟨_, _, _, rfl, by decide, in_X2, tyX2_ok, Or.inl ⟨rfl, Or.inl q160⟩, fun j hj hne => nmX2 j hj 4 (by decide) hne⟩
theorem fp2_24_1 {nm : String} : FPk "InsuredFlame$Moment" nm 24 1 5 := ⟨_, _, _, rfl, by decide, in_X2, tyX2_ok, Or.inl ⟨rfl, Or.inl q161⟩, fun j hj hne => nmX2 j hj 5 (by decide) hne⟩
theorem fp2_27_1 {nm : String} : FPk "InsuredFlame$Moment" nm 27 1 6 := ⟨_, _, _, rfl, by decide, in_X2, tyX2_ok, Or.inl ⟨rfl, Or.inl q162⟩, fun j hj hne => nmX2 j hj 6 (by decide) hne⟩
theorem fp2_30_1 {nm : String} : FPk "InsuredFlame$Moment" nm 30 1 7 := ⟨_, _, _, rfl, by decide, in_X2, tyX2_ok, Or.inl ⟨rfl, Or.inl q163⟩, fun j hj hne => nmX2 j hj 7 (by decide) hne⟩
theorem fp2_33_1 {nm : String} : FPk "InsuredFlame$Moment" nm 33 1 8 := ⟨_, _, _, rfl, by decide, in_X2, tyX2_ok, Or.inl ⟨rfl, Or.inl q164⟩, fun j hj hne => nmX2 j hj 8 (by decide) hne⟩
theorem fp2_36_1 {nm : String} : FPk "InsuredFlame$Moment" nm 36 1 9 := ⟨_, _, _, rfl, by decide, in_X2, tyX2_ok, Or.inl ⟨rfl, Or.inl q165⟩, fun j hj hne => nmX2 j hj 9 (by decide) hne⟩
theorem fk2_27_1 : FLk "InsuredFlame$Moment" 27 1 6 := ⟨_, _, _, rfl, by decide, in_X2, tyX2_ok, Or.inl q162⟩
theorem fk2_30_1 : FLk "InsuredFlame$Moment" 30 1 7 := ⟨_, _, _, rfl, by decide, in_X2, tyX2_ok, Or.inl q163⟩
theorem fk2_24_1 : FLk "InsuredFlame$Moment" 24 1 5 := ⟨_, _, _, rfl, by decide, in_X2, tyX2_ok, Or.inl q161⟩
theorem fk2_15_1 : FLk "InsuredFlame$Moment" 15 1 2 := ⟨_, _, _, rfl, by decide, in_X2, tyX2_ok, Or.inl q158⟩
theorem fk2_18_1 : FLk "InsuredFlame$Moment" 18 1 3 := ⟨_, _, _, rfl, by decide, in_X2, tyX2_ok, Or.inl q159⟩
theorem fk2_9_1 : FLk "InsuredFlame$Moment" 9 1 1 := ⟨_, _, _, rfl, by decide, in_X2, tyX2_ok, Or.inl q157⟩
theorem fk2_33_1 : FLk "InsuredFlame$Moment" 33 1 8 := ⟨_, _, _, rfl, by decide, in_X2, tyX2_ok, Or.inl q164⟩
theorem fk2_21_1 : FLk "InsuredFlame$Moment" 21 1 4 := ⟨_, _, _, rfl, by decide, in_X2, tyX2_ok, Or.inl q160⟩
theorem fk2_36_1 : FLk "InsuredFlame$Moment" 36 1 9 := ⟨_, _, _, rfl, by decide, in_X2, tyX2_ok, Or.inl q165⟩
theorem fk3_15_2 : FLk "InsuredFlame$Fire" 15 2 0 := ⟨_, _, _, rfl, by decide, in_X3, tyX3_ok, Or.inl q235⟩
theorem fk3_19_2 : FLk "InsuredFlame$Fire" 19 2 1 := ⟨_, _, _, rfl, by decide, in_X3, tyX3_ok, Or.inl q238⟩
theorem fk3_3_2 : FLk "InsuredFlame$Fire" 3 2 7 := ⟨_, _, _, rfl, by decide, in_X3, tyX3_ok, Or.inl q251⟩
theorem fk3_33_0 : FLk "InsuredFlame$Fire" 33 0 0 := ⟨_, _, _, rfl, by decide, in_X0, tyX0_ok, Or.inr ⟨_, nst q300 rfl⟩⟩
theorem fk3_40_2 : FLk "InsuredFlame$Fire" 40 2 4 := ⟨_, _, _, rfl, by decide, in_X3, tyX3_ok, Or.inl q244⟩
theorem fp3_40_2 {nm : String} : FPk "InsuredFlame$Fire" nm 40 2 4 := ⟨_, _, _, rfl, by decide, in_X3, tyX3_ok, Or.inl ⟨rfl, Or.inl q244⟩, fun j hj hne => nmX3 j hj 4 (by decide) hne⟩
theorem fk3_44_2 : FLk "InsuredFlame$Fire" 44 2 5 := ⟨_, _, _, rfl, by decide, in_X3, tyX3_ok, Or.inl q247⟩
theorem fp3_44_2 {nm : String} : FPk "InsuredFlame$Fire" nm 44 2 5 := ⟨_, _, _, rfl, by decide, in_X3, tyX3_ok, Or.inl ⟨rfl, Or.inl q247⟩, fun j hj hne => nmX3 j hj 5 (by decide) hne⟩
theorem fk3_47_2 : FLk "InsuredFlame$Fire" 47 2 6 := ⟨_, _, _, rfl, by decide, in_X3, tyX3_ok, Or.inl q249⟩
theorem fp3_47_2 {nm : String} : FPk "InsuredFlame$Fire" nm 47 2 6 := ⟨_, _, _, rfl, by decide, in_X3, tyX3_ok, Or.inl ⟨rfl, Or.inl q249⟩, fun j hj hne => nmX3 j hj 6 (by decide) hne⟩
theorem fk3_28_2 : FLk "InsuredFlame$Fire" 28 2 3 := ⟨_, _, _, rfl, by decide, in_X3, tyX3_ok, Or.inl q241⟩
theorem lk3_36 : LkV "InsuredFlame$Fire" 36 "InsuredFlame$Thing" yX4_takes cX4_takes 2 none 1 := ⟨q764, q765, q766, q118, q767, by decide +kernel⟩
theorem lk3_136 : LkV "InsuredFlame$Fire" 136 "InsuredFlame$Fire" yX3_minuteGoes cX3_minuteGoes 2 none 0 := ⟨q858, q859, q860, q117, q861, by decide +kernel⟩
theorem fk3_22_2 : FLk "InsuredFlame$Fire" 22 2 2 := ⟨_, _, _, rfl, by decide, in_X3, tyX3_ok, Or.inl q240⟩
theorem lk3_132 : LkV "InsuredFlame$Fire" 132 "InsuredFlame$Fire" yX3_burns cX3_burns 6 none 1 := ⟨q862, q864, qs24, q117, q865, by decide +kernel⟩
theorem fk3_58_3 : FLk "InsuredFlame$Fire" 58 3 2 := ⟨_, _, _, rfl, by decide, in_X4, tyX4_ok, Or.inr ⟨_, nst q213 rfl⟩⟩
theorem fp3_68_3 {nm : String} : FPk "InsuredFlame$Fire" nm 68 3 4 := ⟨_, _, _, rfl, by decide, in_X4, tyX4_ok, Or.inl ⟨rfl, Or.inr ⟨_, nst q221 rfl⟩⟩, fun j hj hne => nmX4 j hj 4 (by decide) hne⟩
theorem lk3_54 : LkV "InsuredFlame$Fire" 54 "InsuredFlame$Thing" yX4_isAt cX4_isAt 2 (some .boolean) 1 := ⟨q866, q867, q868, q118, q869, by decide +kernel⟩
theorem fk3_96_0 : FLk "InsuredFlame$Fire" 96 0 6 := ⟨_, _, _, rfl, by decide, in_X0, tyX0_ok, Or.inr ⟨_, nst q313 rfl⟩⟩
theorem lk3_128 : LkV "InsuredFlame$Fire" 128 "InsuredFlame$Text" yX5_says cX5_says 4 (some .boolean) 2 := ⟨q971, q972, q973, q119, q974, by decide +kernel⟩
theorem lk3_100 : LkV "InsuredFlame$Fire" 100 "InsuredFlame$Fire" yX3_asked cX3_asked 5 (some (.object "InsuredFlame$Moment")) 4 := ⟨q887, q889, qs26, q117, q890, by decide +kernel⟩
theorem lk3_112 : LkV "InsuredFlame$Fire" 112 "InsuredFlame$Fire" yX3_draw cX3_draw 1 (some .int) 0 := ⟨q964, q966, qs27, q117, q967, by decide +kernel⟩
theorem lk3_125 : LkV "InsuredFlame$Fire" 125 "InsuredFlame$Fire" yX3_goesOver cX3_goesOver 6 none 2 := ⟨q870, q872, qs25, q117, q873, by decide +kernel⟩
theorem lk3_121 : LkV "InsuredFlame$Fire" 121 "InsuredFlame$Fire" yX3_lights cX3_lights 3 none 2 := ⟨q970, q833, q834, q117, q835, by decide +kernel⟩
theorem lk3_109 : LkSN "InsuredFlame$Fire" 109 yX0_held cX0_held 2 (some .int) 2 := ⟨⟨_, nst q959 rfl⟩, q960, q114, q961, by decide +kernel⟩
theorem lk3_103 : LkV "InsuredFlame$Fire" 103 "InsuredFlame$Text" yX5_tells cX5_tells 4 (some .int) 2 := ⟨q911, q912, q913, q119, q914, by decide +kernel⟩
theorem lk3_50 : LkSN "InsuredFlame$Fire" 50 yX0_next cX0_next 2 (some .int) 2 := ⟨⟨_, nst q874 rfl⟩, q875, q114, q876, by decide +kernel⟩
theorem fk3_72_0 : FLk "InsuredFlame$Fire" 72 0 1 := ⟨_, _, _, rfl, by decide, in_X0, tyX0_ok, Or.inr ⟨_, nst q304 rfl⟩⟩
theorem lk3_92 : LkV "InsuredFlame$Fire" 92 "InsuredFlame$Moment" yX2_with cX2_with 5 (some (.object "InsuredFlame$Moment")) 4 := ⟨q907, q908, q909, q116, q910, by decide +kernel⟩
theorem lk3_86 : LkV "InsuredFlame$Fire" 86 "InsuredFlame$Moment" yX2_of cX2_of 6 (some (.object "InsuredFlame$Moment")) 5 := ⟨q903, q904, q905, q116, q906, by decide +kernel⟩
theorem lk3_83 : LkV "InsuredFlame$Fire" 83 "InsuredFlame$Fire" yX3_sumsAt cX3_sumsAt 7 (some .int) 1 := ⟨q899, q900, q901, q117, q902, by decide +kernel⟩
theorem lk3_80 : LkV "InsuredFlame$Fire" 80 "InsuredFlame$Fire" yX3_valueAt cX3_valueAt 7 (some .int) 1 := ⟨q895, q896, q897, q117, q898, by decide +kernel⟩
theorem lk3_76 : LkV "InsuredFlame$Fire" 76 "InsuredFlame$Fire" yX3_around cX3_around 4 (some .int) 1 := ⟨q891, q892, q893, q117, q894, by decide +kernel⟩
theorem fk3_61_3 : FLk "InsuredFlame$Fire" 61 3 1 := ⟨_, _, _, rfl, by decide, in_X4, tyX4_ok, Or.inr ⟨_, nst q209 rfl⟩⟩
theorem fk3_64_3 : FLk "InsuredFlame$Fire" 64 3 3 := ⟨_, _, _, rfl, by decide, in_X4, tyX4_ok, Or.inr ⟨_, nst q218 rfl⟩⟩
theorem fk3_68_3 : FLk "InsuredFlame$Fire" 68 3 4 := ⟨_, _, _, rfl, by decide, in_X4, tyX4_ok, Or.inr ⟨_, nst q221 rfl⟩⟩
theorem fk4_7_3 : FLk "InsuredFlame$Thing" 7 3 0 := ⟨_, _, _, rfl, by decide, in_X4, tyX4_ok, Or.inl q204⟩
theorem fp4_7_3 {nm : String} : FPk "InsuredFlame$Thing" nm 7 3 0 := ⟨_, _, _, rfl, by decide, in_X4, tyX4_ok, Or.inl ⟨rfl, Or.inl q204⟩, fun j hj hne => nmX4 j hj 0 (by decide) hne⟩
theorem fk4_13_3 : FLk "InsuredFlame$Thing" 13 3 1 := ⟨_, _, _, rfl, by decide, in_X4, tyX4_ok, Or.inl q207⟩
theorem fp4_13_3 {nm : String} : FPk "InsuredFlame$Thing" nm 13 3 1 := ⟨_, _, _, rfl, by decide, in_X4, tyX4_ok, Or.inl ⟨rfl, Or.inl q207⟩, fun j hj hne => nmX4 j hj 1 (by decide) hne⟩
theorem fk4_16_3 : FLk "InsuredFlame$Thing" 16 3 2 := ⟨_, _, _, rfl, by decide, in_X4, tyX4_ok, Or.inl q211⟩
theorem fp4_16_3 {nm : String} : FPk "InsuredFlame$Thing" nm 16 3 2 := ⟨_, _, _, rfl, by decide, in_X4, tyX4_ok, Or.inl ⟨rfl, Or.inl q211⟩, fun j hj hne => nmX4 j hj 2 (by decide) hne⟩
theorem fk4_19_3 : FLk "InsuredFlame$Thing" 19 3 3 := ⟨_, _, _, rfl, by decide, in_X4, tyX4_ok, Or.inl q215⟩
theorem fp4_19_3 {nm : String} : FPk "InsuredFlame$Thing" nm 19 3 3 := ⟨_, _, _, rfl, by decide, in_X4, tyX4_ok, Or.inl ⟨rfl, Or.inl q215⟩, fun j hj hne => nmX4 j hj 3 (by decide) hne⟩
theorem fk4_23_3 : FLk "InsuredFlame$Thing" 23 3 4 := ⟨_, _, _, rfl, by decide, in_X4, tyX4_ok, Or.inl q219⟩
theorem fp4_23_3 {nm : String} : FPk "InsuredFlame$Thing" nm 23 3 4 := ⟨_, _, _, rfl, by decide, in_X4, tyX4_ok, Or.inl ⟨rfl, Or.inl q219⟩, fun j hj hne => nmX4 j hj 4 (by decide) hne⟩
theorem fk7_33_6 : FLk "InsuredFlame$Reader" 33 6 4 := ⟨_, _, _, rfl, by decide, in_X7, tyX7_ok, Or.inl q387⟩
theorem fk7_26_6 : FLk "InsuredFlame$Reader" 26 6 2 := ⟨_, _, _, rfl, by decide, in_X7, tyX7_ok, Or.inl q385⟩
theorem fk7_22_6 : FLk "InsuredFlame$Reader" 22 6 0 := ⟨_, _, _, rfl, by decide, in_X7, tyX7_ok, Or.inl q382⟩
theorem fk7_3_6 : FLk "InsuredFlame$Reader" 3 6 6 := ⟨_, _, _, rfl, by decide, in_X7, tyX7_ok, Or.inl q389⟩
theorem fk7_29_0 : FLk "InsuredFlame$Reader" 29 0 5 := ⟨_, _, _, rfl, by decide, in_X0, tyX0_ok, Or.inr ⟨_, nst q309 rfl⟩⟩
theorem fp7_33_6 {nm : String} : FPk "InsuredFlame$Reader" nm 33 6 4 := ⟨_, _, _, rfl, by decide, in_X7, tyX7_ok, Or.inl ⟨rfl, Or.inl q387⟩, fun j hj hne => nmX7 j hj 4 (by decide) hne⟩
theorem fp7_36_6 {nm : String} : FPk "InsuredFlame$Reader" nm 36 6 5 := ⟨_, _, _, rfl, by decide, in_X7, tyX7_ok, Or.inl ⟨rfl, Or.inl q388⟩, fun j hj hne => nmX7 j hj 5 (by decide) hne⟩
theorem fk7_54_6 : FLk "InsuredFlame$Reader" 54 6 3 := ⟨_, _, _, rfl, by decide, in_X7, tyX7_ok, Or.inl q386⟩
theorem fp7_54_6 {nm : String} : FPk "InsuredFlame$Reader" nm 54 6 3 := ⟨_, _, _, rfl, by decide, in_X7, tyX7_ok, Or.inl ⟨rfl, Or.inl q386⟩, fun j hj hne => nmX7 j hj 3 (by decide) hne⟩
theorem fp7_26_6 {nm : String} : FPk "InsuredFlame$Reader" nm 26 6 2 := ⟨_, _, _, rfl, by decide, in_X7, tyX7_ok, Or.inl ⟨rfl, Or.inl q385⟩, fun j hj hne => nmX7 j hj 2 (by decide) hne⟩
theorem lk7_50 : LkV "InsuredFlame$Reader" 50 "InsuredFlame$Reader" yX7_bad cX7_bad 3 none 2 := ⟨q508, q510, qs4, q121, q511, by decide +kernel⟩
theorem lk7_39 : LkV "InsuredFlame$Reader" 39 "InsuredFlame$Reader" yX7_here cX7_here 1 (some .int) 0 := ⟨q417, q419, qs3, q121, q420, by decide +kernel⟩
theorem lk7_47 : LkV "InsuredFlame$Reader" 47 "InsuredFlame$Reader" yX7_seesDigit cX7_seesDigit 1 (some .boolean) 0 := ⟨q534, q536, qs10, q121, q537, by decide +kernel⟩
theorem lk7_43 : LkV "InsuredFlame$Reader" 43 "InsuredFlame$Reader" yX7_isGood cX7_isGood 1 (some .boolean) 0 := ⟨q409, q411, qs1, q121, q412, by decide +kernel⟩
theorem lk16_36_13 : LkU "InsuredFlame$Scribe" 36 "InsuredFlame$Surveyor" "InsuredFlame$Scribe" ⟨"InsuredFlame$Scribe", "here", "()I"⟩ yX16_here cX16_here 1 (some .int) 0 := ⟨q695, q697, q699, q696, q136, q700, Or.inl (nst q707 rfl), by decide +kernel⟩
theorem lk16_36_14 : LkU "InsuredFlame$Scribe" 36 "InsuredFlame$Clerk" "InsuredFlame$Scribe" ⟨"InsuredFlame$Scribe", "here", "()I"⟩ yX16_here cX16_here 1 (some .int) 0 := ⟨q695, q697, q698, q696, q136, q700, Or.inl (nst q707 rfl), by decide +kernel⟩
theorem fk16_17_13 : FLk "InsuredFlame$Scribe" 17 13 1 := ⟨_, _, _, rfl, by decide, in_X17, tyX17_ok, Or.inl q658⟩
theorem fk16_13_13 : FLk "InsuredFlame$Scribe" 13 13 0 := ⟨_, _, _, rfl, by decide, in_X17, tyX17_ok, Or.inl q657⟩
theorem fk16_1_13 : FLk "InsuredFlame$Scribe" 1 13 4 := ⟨_, _, _, rfl, by decide, in_X17, tyX17_ok, Or.inl q661⟩
theorem fk16_20_0 : FLk "InsuredFlame$Scribe" 20 0 5 := ⟨_, _, _, rfl, by decide, in_X0, tyX0_ok, Or.inr ⟨_, nst q310 rfl⟩⟩
theorem fk16_17_14 : FLk "InsuredFlame$Scribe" 17 14 1 := ⟨_, _, _, rfl, by decide, in_X18, tyX18_ok, Or.inl q658⟩
theorem fk16_13_14 : FLk "InsuredFlame$Scribe" 13 14 0 := ⟨_, _, _, rfl, by decide, in_X18, tyX18_ok, Or.inl q657⟩
theorem fk16_1_14 : FLk "InsuredFlame$Scribe" 1 14 4 := ⟨_, _, _, rfl, by decide, in_X18, tyX18_ok, Or.inl q661⟩
theorem fk16_26_13 : FLk "InsuredFlame$Scribe" 26 13 2 := ⟨_, _, _, rfl, by decide, in_X17, tyX17_ok, Or.inl q659⟩
theorem fp16_26_13 {nm : String} : FPk "InsuredFlame$Scribe" nm 26 13 2 := ⟨_, _, _, rfl, by decide, in_X17, tyX17_ok, Or.inl ⟨rfl, Or.inl q659⟩, by decide +kernel⟩
theorem fp16_29_13 {nm : String} : FPk "InsuredFlame$Scribe" nm 29 13 3 := ⟨_, _, _, rfl, by decide, in_X17, tyX17_ok, Or.inl ⟨rfl, Or.inl q660⟩, by decide +kernel⟩
theorem fk16_26_14 : FLk "InsuredFlame$Scribe" 26 14 2 := ⟨_, _, _, rfl, by decide, in_X18, tyX18_ok, Or.inl q659⟩
theorem fp16_26_14 {nm : String} : FPk "InsuredFlame$Scribe" nm 26 14 2 := ⟨_, _, _, rfl, by decide, in_X18, tyX18_ok, Or.inl ⟨rfl, Or.inl q659⟩, by decide +kernel⟩
theorem fp16_29_14 {nm : String} : FPk "InsuredFlame$Scribe" nm 29 14 3 := ⟨_, _, _, rfl, by decide, in_X18, tyX18_ok, Or.inl ⟨rfl, Or.inl q660⟩, by decide +kernel⟩
theorem fp16_17_13 {nm : String} : FPk "InsuredFlame$Scribe" nm 17 13 1 := ⟨_, _, _, rfl, by decide, in_X17, tyX17_ok, Or.inl ⟨rfl, Or.inl q658⟩, by decide +kernel⟩
theorem fp16_17_14 {nm : String} : FPk "InsuredFlame$Scribe" nm 17 14 1 := ⟨_, _, _, rfl, by decide, in_X18, tyX18_ok, Or.inl ⟨rfl, Or.inl q658⟩, by decide +kernel⟩
theorem fk16_29_13 : FLk "InsuredFlame$Scribe" 29 13 3 := ⟨_, _, _, rfl, by decide, in_X17, tyX17_ok, Or.inl q660⟩
theorem lk16_32_13 : LkU "InsuredFlame$Scribe" 32 "InsuredFlame$Surveyor" "InsuredFlame$Scribe" ⟨"InsuredFlame$Scribe", "isGood", "()Z"⟩ yX16_isGood cX16_isGood 1 (some .boolean) 0 := ⟨q751, q1738, q1740, q727, q136, q728, Or.inl (nst q725 rfl), by decide +kernel⟩
theorem fk16_29_14 : FLk "InsuredFlame$Scribe" 29 14 3 := ⟨_, _, _, rfl, by decide, in_X18, tyX18_ok, Or.inl q660⟩
theorem lk16_32_14 : LkU "InsuredFlame$Scribe" 32 "InsuredFlame$Clerk" "InsuredFlame$Scribe" ⟨"InsuredFlame$Scribe", "isGood", "()Z"⟩ yX16_isGood cX16_isGood 1 (some .boolean) 0 := ⟨q751, q1738, q1739, q727, q136, q728, Or.inl (nst q725 rfl), by decide +kernel⟩
theorem lk17_66 : LkV "InsuredFlame$Surveyor" 66 "InsuredFlame$Surveyor" yX17_row cX17_row 1 none 0 := ⟨q685, q687, qs15, q137, q688, by decide +kernel⟩
theorem fk17_15_13 : FLk "InsuredFlame$Surveyor" 15 13 5 := ⟨_, _, _, rfl, by decide, in_X17, tyX17_ok, Or.inl q652⟩
theorem lk17_38_13 : LkU "InsuredFlame$Surveyor" 38 "InsuredFlame$Surveyor" "InsuredFlame$Scribe" ⟨"InsuredFlame$Surveyor", "goes", "()V"⟩ yX16_goes cX16_goes 1 none 0 := ⟨q733, q734, q736, q737, q136, q738, Or.inl (nst q735 rfl), by decide +kernel⟩
theorem lk17_63_13 : LkU "InsuredFlame$Surveyor" 63 "InsuredFlame$Surveyor" "InsuredFlame$Scribe" ⟨"InsuredFlame$Surveyor", "isEnd", "()Z"⟩ yX16_isEnd cX16_isEnd 1 (some .boolean) 0 := ⟨q739, q740, q742, q743, q136, q744, Or.inl (nst q741 rfl), by decide +kernel⟩
theorem lk17_53_13 : LkU "InsuredFlame$Surveyor" 53 "InsuredFlame$Surveyor" "InsuredFlame$Scribe" ⟨"InsuredFlame$Surveyor", "isGood", "()Z"⟩ yX16_isGood cX16_isGood 1 (some .boolean) 0 := ⟨q723, q724, q726, q727, q136, q728, Or.inl (nst q725 rfl), by decide +kernel⟩
theorem lk17_69_13 : LkU "InsuredFlame$Surveyor" 69 "InsuredFlame$Surveyor" "InsuredFlame$Scribe" ⟨"InsuredFlame$Surveyor", "answer", "(I)I"⟩ yX16_answer cX16_answer 2 (some .int) 1 := ⟨q745, q746, q748, q749, q136, q750, Or.inl (nst q747 rfl), by decide +kernel⟩
theorem fk17_57_13 : FLk "InsuredFlame$Surveyor" 57 13 6 := ⟨_, _, _, rfl, by decide, in_X17, tyX17_ok, Or.inl q654⟩
theorem fp17_49_13 {nm : String} : FPk "InsuredFlame$Surveyor" nm 49 13 7 := ⟨_, _, _, rfl, by decide, in_X17, tyX17_ok, Or.inl ⟨rfl, Or.inl q655⟩, by decide +kernel⟩
theorem lk17_60 : LkV "InsuredFlame$Surveyor" 60 "InsuredFlame$Surveyor" yX17_sign cX17_sign 5 none 0 := ⟨q729, q731, qs17, q137, q732, by decide +kernel⟩
theorem lk17_45_13 : LkU "InsuredFlame$Surveyor" 45 "InsuredFlame$Surveyor" "InsuredFlame$Scribe" ⟨"InsuredFlame$Surveyor", "bad", "(II)V"⟩ yX16_bad cX16_bad 3 none 2 := ⟨q717, q718, q720, q721, q136, q722, Or.inl (nst q719 rfl), by decide +kernel⟩
theorem lk17_31_13 : LkU "InsuredFlame$Surveyor" 31 "InsuredFlame$Surveyor" "InsuredFlame$Scribe" ⟨"InsuredFlame$Surveyor", "place", "()I"⟩ yX16_place cX16_place 1 (some .int) 0 := ⟨q711, q712, q714, q715, q136, q716, Or.inl (nst q713 rfl), by decide +kernel⟩
theorem lk17_42 : LkV "InsuredFlame$Surveyor" 42 "InsuredFlame$Surveyor" yX17_kind cX17_kind 1 (some .int) 0 := ⟨q701, q703, qs16, q137, q704, by decide +kernel⟩
theorem lk17_34_13 : LkU "InsuredFlame$Surveyor" 34 "InsuredFlame$Surveyor" "InsuredFlame$Scribe" ⟨"InsuredFlame$Surveyor", "sees", "(II)Z"⟩ yX16_sees cX16_sees 3 (some .boolean) 2 := ⟨q689, q690, q692, q693, q136, q694, Or.inl (nst q691 rfl), by decide +kernel⟩
theorem fp17_57_13 {nm : String} : FPk "InsuredFlame$Surveyor" nm 57 13 6 := ⟨_, _, _, rfl, by decide, in_X17, tyX17_ok, Or.inl ⟨rfl, Or.inl q654⟩, by decide +kernel⟩
theorem lk17_19_13 : LkU "InsuredFlame$Surveyor" 19 "InsuredFlame$Surveyor" "InsuredFlame$Scribe" ⟨"InsuredFlame$Surveyor", "here", "()I"⟩ yX16_here cX16_here 1 (some .int) 0 := ⟨q705, q706, q708, q696, q136, q700, Or.inl (nst q707 rfl), by decide +kernel⟩
theorem lk17_25 : LkV "InsuredFlame$Surveyor" 25 "java/lang/String" yJ0_indexOf cJ0_indexOf 2 (some .int) 1 := ⟨q710, q423, q424, q122, q425, by decide +kernel⟩
theorem fk17_49_13 : FLk "InsuredFlame$Surveyor" 49 13 7 := ⟨_, _, _, rfl, by decide, in_X17, tyX17_ok, Or.inl q655⟩
theorem lk18_106 : LkV "InsuredFlame$Clerk" 106 "InsuredFlame$Clerk" yX18_line cX18_line 4 none 0 := ⟨q794, q796, qs18, q138, q797, by decide +kernel⟩
theorem fk18_91_14 : FLk "InsuredFlame$Clerk" 91 14 6 := ⟨_, _, _, rfl, by decide, in_X18, tyX18_ok, Or.inl q776⟩
theorem lk18_112_14 : LkU "InsuredFlame$Clerk" 112 "InsuredFlame$Clerk" "InsuredFlame$Scribe" ⟨"InsuredFlame$Clerk", "answer", "(I)I"⟩ yX16_answer cX16_answer 2 (some .int) 1 := ⟨q847, q848, q849, q749, q136, q750, Or.inl (nst q747 rfl), by decide +kernel⟩
theorem lk18_23_14 : LkU "InsuredFlame$Clerk" 23 "InsuredFlame$Clerk" "InsuredFlame$Scribe" ⟨"InsuredFlame$Clerk", "isGood", "()Z"⟩ yX16_isGood cX16_isGood 1 (some .boolean) 0 := ⟨q810, q811, q812, q727, q136, q728, Or.inl (nst q725 rfl), by decide +kernel⟩
theorem lk18_38_14 : LkU "InsuredFlame$Clerk" 38 "InsuredFlame$Clerk" "InsuredFlame$Scribe" ⟨"InsuredFlame$Clerk", "goes", "()V"⟩ yX16_goes cX16_goes 1 none 0 := ⟨q821, q822, q823, q737, q136, q738, Or.inl (nst q735 rfl), by decide +kernel⟩
theorem lk18_31_14 : LkU "InsuredFlame$Clerk" 31 "InsuredFlame$Clerk" "InsuredFlame$Scribe" ⟨"InsuredFlame$Clerk", "bad", "(II)V"⟩ yX16_bad cX16_bad 3 none 2 := ⟨q807, q808, q809, q721, q136, q722, Or.inl (nst q719 rfl), by decide +kernel⟩
theorem lk18_19_14 : LkU "InsuredFlame$Clerk" 19 "InsuredFlame$Clerk" "InsuredFlame$Scribe" ⟨"InsuredFlame$Clerk", "place", "()I"⟩ yX16_place cX16_place 1 (some .int) 0 := ⟨q798, q799, q800, q715, q136, q716, Or.inl (nst q713 rfl), by decide +kernel⟩
theorem lk18_35_14 : LkU "InsuredFlame$Clerk" 35 "InsuredFlame$Clerk" "InsuredFlame$Scribe" ⟨"InsuredFlame$Clerk", "here", "()I"⟩ yX16_here cX16_here 1 (some .int) 0 := ⟨q801, q802, q803, q696, q136, q700, Or.inl (nst q707 rfl), by decide +kernel⟩
theorem lk18_109_14 : LkU "InsuredFlame$Clerk" 109 "InsuredFlame$Clerk" "InsuredFlame$Scribe" ⟨"InsuredFlame$Clerk", "isEnd", "()Z"⟩ yX16_isEnd cX16_isEnd 1 (some .boolean) 0 := ⟨q844, q845, q846, q743, q136, q744, Or.inl (nst q741 rfl), by decide +kernel⟩
theorem fp18_91_14 {nm : String} : FPk "InsuredFlame$Clerk" nm 91 14 6 := ⟨_, _, _, rfl, by decide, in_X18, tyX18_ok, Or.inl ⟨rfl, Or.inl q776⟩, by decide +kernel⟩
theorem fk18_3_14 : FLk "InsuredFlame$Clerk" 3 14 7 := ⟨_, _, _, rfl, by decide, in_X18, tyX18_ok, Or.inl q777⟩
theorem fk18_46_0 : FLk "InsuredFlame$Clerk" 46 0 3 := ⟨_, _, _, rfl, by decide, in_X0, tyX0_ok, Or.inr ⟨_, nst q306 rfl⟩⟩
theorem fp18_103_2 {nm : String} : FPk "InsuredFlame$Clerk" nm 103 2 4 := ⟨_, _, _, rfl, by decide, in_X3, tyX3_ok, Or.inl ⟨rfl, Or.inr ⟨_, nst q245 rfl⟩⟩, fun j hj hne => nmX3 j hj 4 (by decide) hne⟩
theorem lk18_27_14 : LkU "InsuredFlame$Clerk" 27 "InsuredFlame$Clerk" "InsuredFlame$Scribe" ⟨"InsuredFlame$Clerk", "sees", "(II)Z"⟩ yX16_sees cX16_sees 3 (some .boolean) 2 := ⟨q804, q805, q806, q693, q136, q694, Or.inl (nst q691 rfl), by decide +kernel⟩
theorem lk18_100 : LkV "InsuredFlame$Clerk" 100 "InsuredFlame$Clerk" yX18_wet cX18_wet 2 none 0 := ⟨q836, q838, qs23, q138, q839, by decide +kernel⟩
theorem lk18_97 : LkV "InsuredFlame$Clerk" 97 "InsuredFlame$Clerk" yX18_lit cX18_lit 3 none 0 := ⟨q828, q830, qs22, q138, q831, by decide +kernel⟩
theorem lk18_94 : LkV "InsuredFlame$Clerk" 94 "InsuredFlame$Clerk" yX18_thing cX18_thing 6 none 0 := ⟨q813, q815, qs19, q138, q816, by decide +kernel⟩
theorem fk18_50_2 : FLk "InsuredFlame$Clerk" 50 2 3 := ⟨_, _, _, rfl, by decide, in_X3, tyX3_ok, Or.inr ⟨_, nst q242 rfl⟩⟩
theorem fp18_71_3 {nm : String} : FPk "InsuredFlame$Clerk" nm 71 3 1 := ⟨_, _, _, rfl, by decide, in_X4, tyX4_ok, Or.inl ⟨rfl, Or.inr ⟨_, nst q208 rfl⟩⟩, fun j hj hne => nmX4 j hj 1 (by decide) hne⟩
theorem fp18_65_3 {nm : String} : FPk "InsuredFlame$Clerk" nm 65 3 0 := ⟨_, _, _, rfl, by decide, in_X4, tyX4_ok, Or.inl ⟨rfl, Or.inr ⟨_, nst q205 rfl⟩⟩, fun j hj hne => nmX4 j hj 0 (by decide) hne⟩
theorem fp18_56_3 {nm : String} : FPk "InsuredFlame$Clerk" nm 56 3 3 := ⟨_, _, _, rfl, by decide, in_X4, tyX4_ok, Or.inl ⟨rfl, Or.inr ⟨_, nst q216 rfl⟩⟩, fun j hj hne => nmX4 j hj 3 (by decide) hne⟩
theorem fp18_68_3 {nm : String} : FPk "InsuredFlame$Clerk" nm 68 3 4 := ⟨_, _, _, rfl, by decide, in_X4, tyX4_ok, Or.inl ⟨rfl, Or.inr ⟨_, nst q220 rfl⟩⟩, fun j hj hne => nmX4 j hj 4 (by decide) hne⟩
theorem fp18_74_3 {nm : String} : FPk "InsuredFlame$Clerk" nm 74 3 2 := ⟨_, _, _, rfl, by decide, in_X4, tyX4_ok, Or.inl ⟨rfl, Or.inr ⟨_, nst q212 rfl⟩⟩, fun j hj hne => nmX4 j hj 2 (by decide) hne⟩
theorem lk18_42 : LkV "InsuredFlame$Clerk" 42 "InsuredFlame$Clerk" yX18_number cX18_number 4 (some .int) 1 := ⟨q817, q819, qs20, q138, q820, by decide +kernel⟩
theorem lk18_62 : LkV "InsuredFlame$Clerk" 62 "InsuredFlame$Clerk" yX18_spot cX18_spot 3 (some .int) 0 := ⟨q824, q826, qs21, q138, q827, by decide +kernel⟩
theorem fk18_56_3 : FLk "InsuredFlame$Clerk" 56 3 3 := ⟨_, _, _, rfl, by decide, in_X4, tyX4_ok, Or.inr ⟨_, nst q216 rfl⟩⟩
theorem lk18_84 : LkV "InsuredFlame$Clerk" 84 "InsuredFlame$Fire" yX3_lights cX3_lights 3 none 2 := ⟨q832, q833, q834, q117, q835, by decide +kernel⟩
theorem fk18_77_0 : FLk "InsuredFlame$Clerk" 77 0 0 := ⟨_, _, _, rfl, by decide, in_X0, tyX0_ok, Or.inr ⟨_, nst q301 rfl⟩⟩
theorem fk18_15_14 : FLk "InsuredFlame$Clerk" 15 14 5 := ⟨_, _, _, rfl, by decide, in_X18, tyX18_ok, Or.inl q774⟩
theorem fk18_81_2 : FLk "InsuredFlame$Clerk" 81 2 0 := ⟨_, _, _, rfl, by decide, in_X3, tyX3_ok, Or.inr ⟨_, nst q236 rfl⟩⟩
theorem lk18_87 : LkV "InsuredFlame$Clerk" 87 "InsuredFlame$Fire" yX3_waters cX3_waters 2 none 1 := ⟨q840, q841, q842, q117, q843, by decide +kernel⟩
theorem lkJ0_633 : LkV "java/lang/String" 633 "java/lang/String" yJ0_indexOf_2 cJ0_indexOf_2 3 (some .int) 2 := ⟨q426, q427, q428, q122, q429, by decide +kernel⟩
theorem lkJ0_505 : LkV "java/lang/String" 505 "java/lang/String" yJ0_length cJ0_length 1 (some .int) 0 := ⟨q436, q437, q438, q122, q439, by decide +kernel⟩
theorem lkJ0_637 : LkS "java/lang/String" 637 yJ1_indexOf cJ1_indexOf 4 (some .int) 4 := ⟨q444, q445, q123, q446, by decide +kernel⟩
theorem lkJ0_492 : LkV "java/lang/String" 492 "java/lang/String" yJ0_isLatin1 cJ0_isLatin1 1 (some .boolean) 0 := ⟨q430, q431, q432, q122, q433, by decide +kernel⟩
theorem lkJ0_335 : LkV "java/lang/String" 335 "java/lang/String" yJ0_coder cJ0_coder 1 (some .byte) 0 := ⟨q440, q441, q442, q122, q443, by decide +kernel⟩
theorem lkJ1_95 : LkS "java/lang/StringLatin1" 95 yJ1_indexOfChar cJ1_indexOfChar 6 (some .int) 4 := ⟨q456, q457, q123, q458, by decide +kernel⟩
theorem lkJ1_88 : LkS "java/lang/StringLatin1" 88 yJ1_canEncode cJ1_canEncode 1 (some .boolean) 1 := ⟨q447, q448, q123, q449, by decide +kernel⟩
def w0_feed (E : eT) (Q : Int32 → vT → Prop) (pc : Nat) (ls : List (Option aV)) (st : List aV) (V : vT) : Prop := wp E.1 E.2.1 (rmQ 1 0 0) "InsuredFlame" "feed" cX0_feed 6 (some .int) (Zm E.2.1 0 0 (QI E.2.2.1 E.2.2.2.1 E.2.2.2.2 Q)) pc ls st E.2.2.1 E.2.2.2.1 E.2.2.2.2 V 0 0
def c0_feed (E : eT) (x1 : Int32) (x2 : Int32) (x3 : Int32) (x4 : Int32) (x5 : Int32) (V : vT) (Q : Int32 → vT → Prop) : Prop := MOk E.1 E.2.1 1 yX0_feed cX0_feed 6 (some .int) [vr 16, vi x1, vi x2, vi x3, vi x4, vi x5] E.2.2.1 E.2.2.2.1 E.2.2.2.2 V 0 0 (QI E.2.2.1 E.2.2.2.1 E.2.2.2.2 Q)
def w0_push (E : eT) (Q : vT → Prop) (pc : Nat) (ls : List (Option aV)) (st : List aV) (V : vT) : Prop := wp E.1 E.2.1 (rmQ 0 0 0) "InsuredFlame" "push" cX0_push 3 none (Zm E.2.1 0 0 (QV E.2.2.1 E.2.2.2.1 E.2.2.2.2 Q)) pc ls st E.2.2.1 E.2.2.2.1 E.2.2.2.2 V 0 0
def c0_push (E : eT) (x1 : Int32) (V : vT) (Q : vT → Prop) : Prop := MOk E.1 E.2.1 0 yX0_push cX0_push 3 none [vr 16, vi x1] E.2.2.1 E.2.2.2.1 E.2.2.2.2 V 0 0 (QV E.2.2.1 E.2.2.2.1 E.2.2.2.2 Q)
def w0_within (E : eT) (Q : Int32 → vT → Prop) (pc : Nat) (ls : List (Option aV)) (st : List aV) (V : vT) : Prop := wp E.1 E.2.1 (rmQ 0 0 0) "InsuredFlame" "within" cX0_within 3 (some .boolean) (Zm E.2.1 0 0 (QI E.2.2.1 E.2.2.2.1 E.2.2.2.2 Q)) pc ls st E.2.2.1 E.2.2.2.1 E.2.2.2.2 V 0 0
def c0_within (E : eT) (x1 : Int32) (x2 : Int32) (x3 : Int32) (V : vT) (Q : Int32 → vT → Prop) : Prop := MOk E.1 E.2.1 0 yX0_within cX0_within 3 (some .boolean) [vi x1, vi x2, vi x3] E.2.2.1 E.2.2.2.1 E.2.2.2.2 V 0 0 (QI E.2.2.1 E.2.2.2.1 E.2.2.2.2 Q)
def w0_minutes (E : eT) (Q : Int32 → vT → Prop) (pc : Nat) (ls : List (Option aV)) (st : List aV) (V : vT) : Prop := wp E.1 E.2.1 (rmQ 47 0 0) "InsuredFlame" "minutes" cX0_minutes 2 (some .int) (Zm E.2.1 0 0 (QI E.2.2.1 E.2.2.2.1 E.2.2.2.2 Q)) pc ls st E.2.2.1 E.2.2.2.1 E.2.2.2.2 V 0 0
def c0_minutes (E : eT) (x1 : Int32) (V : vT) (Q : Int32 → vT → Prop) : Prop := MOk E.1 E.2.1 47 yX0_minutes cX0_minutes 2 (some .int) [vr 16, vi x1] E.2.2.1 E.2.2.2.1 E.2.2.2.2 V 0 0 (QI E.2.2.1 E.2.2.2.1 E.2.2.2.2 Q)
def w0_next (E : eT) (Q : Int32 → vT → Prop) (pc : Nat) (ls : List (Option aV)) (st : List aV) (V : vT) : Prop := wp E.1 E.2.1 (rmQ 2 0 0) "InsuredFlame" "next" cX0_next 2 (some .int) (Zm E.2.1 0 0 (QI E.2.2.1 E.2.2.2.1 E.2.2.2.2 Q)) pc ls st E.2.2.1 E.2.2.2.1 E.2.2.2.2 V 0 0
def c0_next (E : eT) (x1 : Int32) (x2 : Int32) (V : vT) (Q : Int32 → vT → Prop) : Prop := MOk E.1 E.2.1 2 yX0_next cX0_next 2 (some .int) [vi x1, vi x2] E.2.2.1 E.2.2.2.1 E.2.2.2.2 V 0 0 (QI E.2.2.1 E.2.2.2.1 E.2.2.2.2 Q)
def w0_placeAt (E : eT) (Q : Int32 → vT → Prop) (pc : Nat) (ls : List (Option aV)) (st : List aV) (V : vT) : Prop := wp E.1 E.2.1 (rmQ 1 0 0) "InsuredFlame" "placeAt" cX0_placeAt 2 (some .int) (Zm E.2.1 0 0 (QI E.2.2.1 E.2.2.2.1 E.2.2.2.2 Q)) pc ls st E.2.2.1 E.2.2.2.1 E.2.2.2.2 V 0 0
def c0_placeAt (E : eT) (x1 : Int32) (x2 : Int32) (V : vT) (Q : Int32 → vT → Prop) : Prop := MOk E.1 E.2.1 1 yX0_placeAt cX0_placeAt 2 (some .int) [vi x1, vi x2] E.2.2.1 E.2.2.2.1 E.2.2.2.2 V 0 0 (QI E.2.2.1 E.2.2.2.1 E.2.2.2.2 Q)
def w0_in (E : eT) (Q : Int32 → vT → Prop) (pc : Nat) (ls : List (Option aV)) (st : List aV) (V : vT) : Prop := wp E.1 E.2.1 (rmQ 0 0 0) "InsuredFlame" "in" cX0_in 2 (some .boolean) (Zm E.2.1 0 0 (QI E.2.2.1 E.2.2.2.1 E.2.2.2.2 Q)) pc ls st E.2.2.1 E.2.2.2.1 E.2.2.2.2 V 0 0
def c0_in (E : eT) (x1 : Int32) (x2 : Int32) (V : vT) (Q : Int32 → vT → Prop) : Prop := MOk E.1 E.2.1 0 yX0_in cX0_in 2 (some .boolean) [vi x1, vi x2] E.2.2.1 E.2.2.2.1 E.2.2.2.2 V 0 0 (QI E.2.2.1 E.2.2.2.1 E.2.2.2.2 Q)
def w0_held (E : eT) (Q : Int32 → vT → Prop) (pc : Nat) (ls : List (Option aV)) (st : List aV) (V : vT) : Prop := wp E.1 E.2.1 (rmQ 1 0 0) "InsuredFlame" "held" cX0_held 2 (some .int) (Zm E.2.1 0 0 (QI E.2.2.1 E.2.2.2.1 E.2.2.2.2 Q)) pc ls st E.2.2.1 E.2.2.2.1 E.2.2.2.2 V 0 0
def c0_held (E : eT) (x1 : Int32) (x2 : Int32) (V : vT) (Q : Int32 → vT → Prop) : Prop := MOk E.1 E.2.1 1 yX0_held cX0_held 2 (some .int) [vi x1, vi x2] E.2.2.1 E.2.2.2.1 E.2.2.2.2 V 0 0 (QI E.2.2.1 E.2.2.2.1 E.2.2.2.2 Q)
def w0_tried (E : eT) (Q : Int32 → vT → Prop) (pc : Nat) (ls : List (Option aV)) (st : List aV) (V : vT) : Prop := wp E.1 E.2.1 (rmQ 47 0 0) "InsuredFlame" "tried" cX0_tried 3 (some .int) (Zm E.2.1 0 0 (QI E.2.2.1 E.2.2.2.1 E.2.2.2.2 Q)) pc ls st E.2.2.1 E.2.2.2.1 E.2.2.2.2 V 0 0
def c0_tried (E : eT) (x1 : Int32) (x2 : Int32) (V : vT) (Q : Int32 → vT → Prop) : Prop := MOk E.1 E.2.1 47 yX0_tried cX0_tried 3 (some .int) [vr 16, vi x1, vi x2] E.2.2.1 E.2.2.2.1 E.2.2.2.2 V 0 0 (QI E.2.2.1 E.2.2.2.1 E.2.2.2.2 Q)
def w0_sumsLeft (E : eT) (Q : Int32 → vT → Prop) (pc : Nat) (ls : List (Option aV)) (st : List aV) (V : vT) : Prop := wp E.1 E.2.1 (rmQ 2 0 0) "InsuredFlame" "sumsLeft" cX0_sumsLeft 3 (some .int) (Zm E.2.1 0 0 (QI E.2.2.1 E.2.2.2.1 E.2.2.2.2 Q)) pc ls st E.2.2.1 E.2.2.2.1 E.2.2.2.2 V 0 0
def c0_sumsLeft (E : eT)  (V : vT) (Q : Int32 → vT → Prop) : Prop := MOk E.1 E.2.1 2 yX0_sumsLeft cX0_sumsLeft 3 (some .int) [vr 16] E.2.2.1 E.2.2.2.1 E.2.2.2.2 V 0 0 (QI E.2.2.1 E.2.2.2.1 E.2.2.2.2 Q)
def w0_placeIs (E : eT) (Q : Int32 → vT → Prop) (pc : Nat) (ls : List (Option aV)) (st : List aV) (V : vT) : Prop := wp E.1 E.2.1 (rmQ 2 0 0) "InsuredFlame" "placeIs" cX0_placeIs 5 (some .int) (Zm E.2.1 0 0 (QI E.2.2.1 E.2.2.2.1 E.2.2.2.2 Q)) pc ls st E.2.2.1 E.2.2.2.1 E.2.2.2.2 V 0 0
def c0_placeIs (E : eT) (x1 : Int32) (x2 : Int32) (x3 : Int32) (V : vT) (Q : Int32 → vT → Prop) : Prop := MOk E.1 E.2.1 2 yX0_placeIs cX0_placeIs 5 (some .int) [vr 16, vi x1, vi x2, vi x3] E.2.2.1 E.2.2.2.1 E.2.2.2.2 V 0 0 (QI E.2.2.1 E.2.2.2.1 E.2.2.2.2 Q)
def w0_thingIs (E : eT) (Q : Int32 → vT → Prop) (pc : Nat) (ls : List (Option aV)) (st : List aV) (V : vT) : Prop := wp E.1 E.2.1 (rmQ 2 0 0) "InsuredFlame" "thingIs" cX0_thingIs 4 (some .int) (Zm E.2.1 0 0 (QI E.2.2.1 E.2.2.2.1 E.2.2.2.2 Q)) pc ls st E.2.2.1 E.2.2.2.1 E.2.2.2.2 V 0 0
def c0_thingIs (E : eT) (x1 : Int32) (x2 : Int32) (V : vT) (Q : Int32 → vT → Prop) : Prop := MOk E.1 E.2.1 2 yX0_thingIs cX0_thingIs 4 (some .int) [vr 16, vi x1, vi x2] E.2.2.1 E.2.2.2.1 E.2.2.2.2 V 0 0 (QI E.2.2.1 E.2.2.2.1 E.2.2.2.2 Q)
def w0_isThing (E : eT) (Q : Int32 → vT → Prop) (pc : Nat) (ls : List (Option aV)) (st : List aV) (V : vT) : Prop := wp E.1 E.2.1 (rmQ 1 0 0) "InsuredFlame" "isThing" cX0_isThing 2 (some .boolean) (Zm E.2.1 0 0 (QI E.2.2.1 E.2.2.2.1 E.2.2.2.2 Q)) pc ls st E.2.2.1 E.2.2.2.1 E.2.2.2.2 V 0 0
def c0_isThing (E : eT) (x1 : Int32) (V : vT) (Q : Int32 → vT → Prop) : Prop := MOk E.1 E.2.1 1 yX0_isThing cX0_isThing 2 (some .boolean) [vr 16, vi x1] E.2.2.1 E.2.2.2.1 E.2.2.2.2 V 0 0 (QI E.2.2.1 E.2.2.2.1 E.2.2.2.2 Q)
def w0_comes (E : eT) (Q : Int32 → vT → Prop) (pc : Nat) (ls : List (Option aV)) (st : List aV) (V : vT) : Prop := wp E.1 E.2.1 (rmQ 46 0 0) "InsuredFlame" "comes" cX0_comes 6 (some .int) (Zm E.2.1 0 0 (QI E.2.2.1 E.2.2.2.1 E.2.2.2.2 Q)) pc ls st E.2.2.1 E.2.2.2.1 E.2.2.2.2 V 0 0
def c0_comes (E : eT) (x1 : Int32) (x2 : Int32) (x3 : Int32) (V : vT) (Q : Int32 → vT → Prop) : Prop := MOk E.1 E.2.1 46 yX0_comes cX0_comes 6 (some .int) [vr 16, vi x1, vi x2, vi x3] E.2.2.1 E.2.2.2.1 E.2.2.2.2 V 0 0 (QI E.2.2.1 E.2.2.2.1 E.2.2.2.2 Q)
def w0_over (E : eT) (Q : Int32 → vT → Prop) (pc : Nat) (ls : List (Option aV)) (st : List aV) (V : vT) : Prop := wp E.1 E.2.1 (rmQ 46 0 0) "InsuredFlame" "over" cX0_over 3 (some .int) (Zm E.2.1 0 0 (QI E.2.2.1 E.2.2.2.1 E.2.2.2.2 Q)) pc ls st E.2.2.1 E.2.2.2.1 E.2.2.2.2 V 0 0
def c0_over (E : eT) (x1 : Int32) (V : vT) (Q : Int32 → vT → Prop) : Prop := MOk E.1 E.2.1 46 yX0_over cX0_over 3 (some .int) [vr 16, vi x1] E.2.2.1 E.2.2.2.1 E.2.2.2.2 V 0 0 (QI E.2.2.1 E.2.2.2.1 E.2.2.2.2 Q)
def w0_steps (E : eT) (Q : Int32 → vT → Prop) (pc : Nat) (ls : List (Option aV)) (st : List aV) (V : vT) : Prop := wp E.1 E.2.1 (rmQ 5 0 0) "InsuredFlame" "steps" cX0_steps 3 (some .int) (Zm E.2.1 0 0 (QI E.2.2.1 E.2.2.2.1 E.2.2.2.2 Q)) pc ls st E.2.2.1 E.2.2.2.1 E.2.2.2.2 V 0 0
def c0_steps (E : eT) (x1 : Int32) (x2 : Int32) (V : vT) (Q : Int32 → vT → Prop) : Prop := MOk E.1 E.2.1 5 yX0_steps cX0_steps 3 (some .int) [vr 16, vi x1, vi x2] E.2.2.1 E.2.2.2.1 E.2.2.2.2 V 0 0 (QI E.2.2.1 E.2.2.2.1 E.2.2.2.2 Q)
def w0_isWood (E : eT) (Q : Int32 → vT → Prop) (pc : Nat) (ls : List (Option aV)) (st : List aV) (V : vT) : Prop := wp E.1 E.2.1 (rmQ 1 0 0) "InsuredFlame" "isWood" cX0_isWood 2 (some .boolean) (Zm E.2.1 0 0 (QI E.2.2.1 E.2.2.2.1 E.2.2.2.2 Q)) pc ls st E.2.2.1 E.2.2.2.1 E.2.2.2.2 V 0 0
def c0_isWood (E : eT) (x1 : Int32) (V : vT) (Q : Int32 → vT → Prop) : Prop := MOk E.1 E.2.1 1 yX0_isWood cX0_isWood 2 (some .boolean) [vr 16, vi x1] E.2.2.1 E.2.2.2.1 E.2.2.2.2 V 0 0 (QI E.2.2.1 E.2.2.2.1 E.2.2.2.2 Q)
def w0_laysFrom (E : eT) (Q : vT → Prop) (pc : Nat) (ls : List (Option aV)) (st : List aV) (V : vT) : Prop := wp E.1 E.2.1 (rmQ 4 0 0) "InsuredFlame" "laysFrom" cX0_laysFrom 3 none (Zm E.2.1 0 0 (QV E.2.2.1 E.2.2.2.1 E.2.2.2.2 Q)) pc ls st E.2.2.1 E.2.2.2.1 E.2.2.2.2 V 0 0
def c0_laysFrom (E : eT) (x1 : Int32) (V : vT) (Q : vT → Prop) : Prop := MOk E.1 E.2.1 4 yX0_laysFrom cX0_laysFrom 3 none [vr 16, vi x1] E.2.2.1 E.2.2.2.1 E.2.2.2.2 V 0 0 (QV E.2.2.1 E.2.2.2.1 E.2.2.2.2 Q)
def w0_spreads (E : eT) (Q : vT → Prop) (pc : Nat) (ls : List (Option aV)) (st : List aV) (V : vT) : Prop := wp E.1 E.2.1 (rmQ 3 0 0) "InsuredFlame" "spreads" cX0_spreads 6 none (Zm E.2.1 0 0 (QV E.2.2.1 E.2.2.2.1 E.2.2.2.2 Q)) pc ls st E.2.2.1 E.2.2.2.1 E.2.2.2.2 V 0 0
def c0_spreads (E : eT)  (V : vT) (Q : vT → Prop) : Prop := MOk E.1 E.2.1 3 yX0_spreads cX0_spreads 6 none [vr 16] E.2.2.1 E.2.2.2.1 E.2.2.2.2 V 0 0 (QV E.2.2.1 E.2.2.2.1 E.2.2.2.2 Q)
def w0_began (E : eT) (Q : Int32 → vT → Prop) (pc : Nat) (ls : List (Option aV)) (st : List aV) (V : vT) : Prop := wp E.1 E.2.1 (rmQ 5 0 0) "InsuredFlame" "began" cX0_began 6 (some .int) (Zm E.2.1 0 0 (QI E.2.2.1 E.2.2.2.1 E.2.2.2.2 Q)) pc ls st E.2.2.1 E.2.2.2.1 E.2.2.2.2 V 0 0
def c0_began (E : eT) (x1 : Int32) (x2 : Int32) (V : vT) (Q : Int32 → vT → Prop) : Prop := MOk E.1 E.2.1 5 yX0_began cX0_began 6 (some .int) [vr 16, vi x1, vi x2] E.2.2.1 E.2.2.2.1 E.2.2.2.2 V 0 0 (QI E.2.2.1 E.2.2.2.1 E.2.2.2.2 Q)
def w0_isSo (E : eT) (Q : Int32 → vT → Prop) (pc : Nat) (ls : List (Option aV)) (st : List aV) (V : vT) : Prop := wp E.1 E.2.1 (rmQ 0 0 0) "InsuredFlame" "isSo" cX0_isSo 3 (some .boolean) (Zm E.2.1 0 0 (QI E.2.2.1 E.2.2.2.1 E.2.2.2.2 Q)) pc ls st E.2.2.1 E.2.2.2.1 E.2.2.2.2 V 0 0
def c0_isSo (E : eT) (x1 : Int32) (V : vT) (Q : Int32 → vT → Prop) : Prop := MOk E.1 E.2.1 0 yX0_isSo cX0_isSo 3 (some .boolean) [vr 16, vi x1] E.2.2.1 E.2.2.2.1 E.2.2.2.2 V 0 0 (QI E.2.2.1 E.2.2.2.1 E.2.2.2.2 Q)
def w0_breaks (E : eT) (Q : Int32 → vT → Prop) (pc : Nat) (ls : List (Option aV)) (st : List aV) (V : vT) : Prop := wp E.1 E.2.1 (rmQ 5 0 0) "InsuredFlame" "breaks" cX0_breaks 5 (some .int) (Zm E.2.1 0 0 (QI E.2.2.1 E.2.2.2.1 E.2.2.2.2 Q)) pc ls st E.2.2.1 E.2.2.2.1 E.2.2.2.2 V 0 0
def c0_breaks (E : eT) (x1 : Int32) (x2 : Int32) (V : vT) (Q : Int32 → vT → Prop) : Prop := MOk E.1 E.2.1 5 yX0_breaks cX0_breaks 5 (some .int) [vr 16, vi x1, vi x2] E.2.2.1 E.2.2.2.1 E.2.2.2.2 V 0 0 (QI E.2.2.1 E.2.2.2.1 E.2.2.2.2 Q)
def w0_finds (E : eT) (Q : Int32 → vT → Prop) (pc : Nat) (ls : List (Option aV)) (st : List aV) (V : vT) : Prop := wp E.1 E.2.1 (rmQ 4 0 0) "InsuredFlame" "finds" cX0_finds 4 (some .boolean) (Zm E.2.1 0 0 (QI E.2.2.1 E.2.2.2.1 E.2.2.2.2 Q)) pc ls st E.2.2.1 E.2.2.2.1 E.2.2.2.2 V 0 0
def c0_finds (E : eT) (x1 : Int32) (x2 : Int32) (V : vT) (Q : Int32 → vT → Prop) : Prop := MOk E.1 E.2.1 4 yX0_finds cX0_finds 4 (some .boolean) [vr 16, vi x1, vi x2] E.2.2.1 E.2.2.2.1 E.2.2.2.2 V 0 0 (QI E.2.2.1 E.2.2.2.1 E.2.2.2.2 Q)
def w0_reaches (E : eT) (Q : vT → Prop) (pc : Nat) (ls : List (Option aV)) (st : List aV) (V : vT) : Prop := wp E.1 E.2.1 (rmQ 0 0 0) "InsuredFlame" "reaches" cX0_reaches 3 none (Zm E.2.1 0 0 (QV E.2.2.1 E.2.2.2.1 E.2.2.2.2 Q)) pc ls st E.2.2.1 E.2.2.2.1 E.2.2.2.2 V 0 0
def c0_reaches (E : eT) (x1 : Int32) (x2 : Int32) (V : vT) (Q : vT → Prop) : Prop := MOk E.1 E.2.1 0 yX0_reaches cX0_reaches 3 none [vr 16, vi x1, vi x2] E.2.2.1 E.2.2.2.1 E.2.2.2.2 V 0 0 (QV E.2.2.1 E.2.2.2.1 E.2.2.2.2 Q)
def w0_looksFrom (E : eT) (Q : vT → Prop) (pc : Nat) (ls : List (Option aV)) (st : List aV) (V : vT) : Prop := wp E.1 E.2.1 (rmQ 3 0 0) "InsuredFlame" "looksFrom" cX0_looksFrom 6 none (Zm E.2.1 0 0 (QV E.2.2.1 E.2.2.2.1 E.2.2.2.2 Q)) pc ls st E.2.2.1 E.2.2.2.1 E.2.2.2.2 V 0 0
def c0_looksFrom (E : eT) (x1 : Int32) (V : vT) (Q : vT → Prop) : Prop := MOk E.1 E.2.1 3 yX0_looksFrom cX0_looksFrom 6 none [vr 16, vi x1] E.2.2.1 E.2.2.2.1 E.2.2.2.2 V 0 0 (QV E.2.2.1 E.2.2.2.1 E.2.2.2.2 Q)
def w0_turns (E : eT) (Q : vT → Prop) (pc : Nat) (ls : List (Option aV)) (st : List aV) (V : vT) : Prop := wp E.1 E.2.1 (rmQ 4 0 0) "InsuredFlame" "turns" cX0_turns 6 none (Zm E.2.1 0 0 (QV E.2.2.1 E.2.2.2.1 E.2.2.2.2 Q)) pc ls st E.2.2.1 E.2.2.2.1 E.2.2.2.2 V 0 0
def c0_turns (E : eT) (x1 : Int32) (x2 : Int32) (V : vT) (Q : vT → Prop) : Prop := MOk E.1 E.2.1 4 yX0_turns cX0_turns 6 none [vr 16, vi x1, vi x2] E.2.2.1 E.2.2.2.1 E.2.2.2.2 V 0 0 (QV E.2.2.1 E.2.2.2.1 E.2.2.2.2 Q)
def w0_wayTo (E : eT) (Q : Int32 → vT → Prop) (pc : Nat) (ls : List (Option aV)) (st : List aV) (V : vT) : Prop := wp E.1 E.2.1 (rmQ 3 0 0) "InsuredFlame" "wayTo" cX0_wayTo 4 (some .int) (Zm E.2.1 0 0 (QI E.2.2.1 E.2.2.2.1 E.2.2.2.2 Q)) pc ls st E.2.2.1 E.2.2.2.1 E.2.2.2.2 V 0 0
def c0_wayTo (E : eT) (x1 : Int32) (x2 : Int32) (V : vT) (Q : Int32 → vT → Prop) : Prop := MOk E.1 E.2.1 3 yX0_wayTo cX0_wayTo 4 (some .int) [vr 16, vi x1, vi x2] E.2.2.1 E.2.2.2.1 E.2.2.2.2 V 0 0 (QI E.2.2.1 E.2.2.2.1 E.2.2.2.2 Q)
def w0_getsOut (E : eT) (Q : Int32 → vT → Prop) (pc : Nat) (ls : List (Option aV)) (st : List aV) (V : vT) : Prop := wp E.1 E.2.1 (rmQ 5 0 0) "InsuredFlame" "getsOut" cX0_getsOut 6 (some .int) (Zm E.2.1 0 0 (QI E.2.2.1 E.2.2.2.1 E.2.2.2.2 Q)) pc ls st E.2.2.1 E.2.2.2.1 E.2.2.2.2 V 0 0
def c0_getsOut (E : eT) (x1 : Int32) (V : vT) (Q : Int32 → vT → Prop) : Prop := MOk E.1 E.2.1 5 yX0_getsOut cX0_getsOut 6 (some .int) [vr 16, vi x1] E.2.2.1 E.2.2.2.1 E.2.2.2.2 V 0 0 (QI E.2.2.1 E.2.2.2.1 E.2.2.2.2 Q)
def w0_laysFromBurning (E : eT) (Q : vT → Prop) (pc : Nat) (ls : List (Option aV)) (st : List aV) (V : vT) : Prop := wp E.1 E.2.1 (rmQ 4 0 0) "InsuredFlame" "laysFromBurning" cX0_laysFromBurning 2 none (Zm E.2.1 0 0 (QV E.2.2.1 E.2.2.2.1 E.2.2.2.2 Q)) pc ls st E.2.2.1 E.2.2.2.1 E.2.2.2.2 V 0 0
def c0_laysFromBurning (E : eT)  (V : vT) (Q : vT → Prop) : Prop := MOk E.1 E.2.1 4 yX0_laysFromBurning cX0_laysFromBurning 2 none [vr 16] E.2.2.1 E.2.2.2.1 E.2.2.2.2 V 0 0 (QV E.2.2.1 E.2.2.2.1 E.2.2.2.2 Q)
def w0_isEdge (E : eT) (Q : Int32 → vT → Prop) (pc : Nat) (ls : List (Option aV)) (st : List aV) (V : vT) : Prop := wp E.1 E.2.1 (rmQ 0 0 0) "InsuredFlame" "isEdge" cX0_isEdge 1 (some .boolean) (Zm E.2.1 0 0 (QI E.2.2.1 E.2.2.2.1 E.2.2.2.2 Q)) pc ls st E.2.2.1 E.2.2.2.1 E.2.2.2.2 V 0 0
def c0_isEdge (E : eT) (x1 : Int32) (V : vT) (Q : Int32 → vT → Prop) : Prop := MOk E.1 E.2.1 0 yX0_isEdge cX0_isEdge 1 (some .boolean) [vi x1] E.2.2.1 E.2.2.2.1 E.2.2.2.2 V 0 0 (QI E.2.2.1 E.2.2.2.1 E.2.2.2.2 Q)
def w0_safe (E : eT) (Q : Int32 → vT → Prop) (pc : Nat) (ls : List (Option aV)) (st : List aV) (V : vT) : Prop := wp E.1 E.2.1 (rmQ 5 0 0) "InsuredFlame" "safe" cX0_safe 5 (some .int) (Zm E.2.1 0 0 (QI E.2.2.1 E.2.2.2.1 E.2.2.2.2 Q)) pc ls st E.2.2.1 E.2.2.2.1 E.2.2.2.2 V 0 0
def c0_safe (E : eT) (x1 : Int32) (V : vT) (Q : Int32 → vT → Prop) : Prop := MOk E.1 E.2.1 5 yX0_safe cX0_safe 5 (some .int) [vr 16, vi x1] E.2.2.1 E.2.2.2.1 E.2.2.2.2 V 0 0 (QI E.2.2.1 E.2.2.2.1 E.2.2.2.2 Q)
def w0_woods (E : eT) (Q : Int32 → vT → Prop) (pc : Nat) (ls : List (Option aV)) (st : List aV) (V : vT) : Prop := wp E.1 E.2.1 (rmQ 5 0 0) "InsuredFlame" "woods" cX0_woods 8 (some .int) (Zm E.2.1 0 0 (QI E.2.2.1 E.2.2.2.1 E.2.2.2.2 Q)) pc ls st E.2.2.1 E.2.2.2.1 E.2.2.2.2 V 0 0
def c0_woods (E : eT) (x1 : Int32) (V : vT) (Q : Int32 → vT → Prop) : Prop := MOk E.1 E.2.1 5 yX0_woods cX0_woods 8 (some .int) [vr 16, vi x1] E.2.2.1 E.2.2.2.1 E.2.2.2.2 V 0 0 (QI E.2.2.1 E.2.2.2.1 E.2.2.2.2 Q)
def w0_insure (E : eT) (Q : Int32 → vT → Prop) (pc : Nat) (ls : List (Option aV)) (st : List aV) (V : vT) : Prop := wp E.1 E.2.1 (rmQ 2 0 0) "InsuredFlame" "insure" cX0_insure 7 (some .int) (Zm E.2.1 0 0 (QI E.2.2.1 E.2.2.2.1 E.2.2.2.2 Q)) pc ls st E.2.2.1 E.2.2.2.1 E.2.2.2.2 V 0 0
def c0_insure (E : eT) (x1 : Int32) (x2 : Int32) (x3 : Int32) (V : vT) (Q : Int32 → vT → Prop) : Prop := MOk E.1 E.2.1 2 yX0_insure cX0_insure 7 (some .int) [vr 16, vi x1, vi x2, vi x3] E.2.2.1 E.2.2.2.1 E.2.2.2.2 V 0 0 (QI E.2.2.1 E.2.2.2.1 E.2.2.2.2 Q)
def w0_sumOf (E : eT) (Q : Int32 → vT → Prop) (pc : Nat) (ls : List (Option aV)) (st : List aV) (V : vT) : Prop := wp E.1 E.2.1 (rmQ 1 0 0) "InsuredFlame" "sumOf" cX0_sumOf 7 (some .int) (Zm E.2.1 0 0 (QI E.2.2.1 E.2.2.2.1 E.2.2.2.2 Q)) pc ls st E.2.2.1 E.2.2.2.1 E.2.2.2.2 V 0 0
def c0_sumOf (E : eT) (x1 : Int32) (x2 : Int32) (x3 : Int32) (x4 : Int32) (V : vT) (Q : Int32 → vT → Prop) : Prop := MOk E.1 E.2.1 1 yX0_sumOf cX0_sumOf 7 (some .int) [vr 16, vi x1, vi x2, vi x3, vi x4] E.2.2.1 E.2.2.2.1 E.2.2.2.2 V 0 0 (QI E.2.2.1 E.2.2.2.1 E.2.2.2.2 Q)
def w0_has (E : eT) (Q : Int32 → vT → Prop) (pc : Nat) (ls : List (Option aV)) (st : List aV) (V : vT) : Prop := wp E.1 E.2.1 (rmQ 0 0 0) "InsuredFlame" "has" cX0_has 2 (some .boolean) (Zm E.2.1 0 0 (QI E.2.2.1 E.2.2.2.1 E.2.2.2.2 Q)) pc ls st E.2.2.1 E.2.2.2.1 E.2.2.2.2 V 0 0
def c0_has (E : eT) (x1 : Int32) (x2 : Int32) (V : vT) (Q : Int32 → vT → Prop) : Prop := MOk E.1 E.2.1 0 yX0_has cX0_has 2 (some .boolean) [vi x1, vi x2] E.2.2.1 E.2.2.2.1 E.2.2.2.2 V 0 0 (QI E.2.2.1 E.2.2.2.1 E.2.2.2.2 Q)
def w0_fed (E : eT) (Q : Int32 → vT → Prop) (pc : Nat) (ls : List (Option aV)) (st : List aV) (V : vT) : Prop := wp E.1 E.2.1 (rmQ 0 0 0) "InsuredFlame" "fed" cX0_fed 2 (some .int) (Zm E.2.1 0 0 (QI E.2.2.1 E.2.2.2.1 E.2.2.2.2 Q)) pc ls st E.2.2.1 E.2.2.2.1 E.2.2.2.2 V 0 0
def c0_fed (E : eT) (x1 : Int32) (V : vT) (Q : Int32 → vT → Prop) : Prop := MOk E.1 E.2.1 0 yX0_fed cX0_fed 2 (some .int) [vr 16, vi x1] E.2.2.1 E.2.2.2.1 E.2.2.2.2 V 0 0 (QI E.2.2.1 E.2.2.2.1 E.2.2.2.2 Q)
def w0_roundFigure (E : eT) (Q : Int32 → vT → Prop) (pc : Nat) (ls : List (Option aV)) (st : List aV) (V : vT) : Prop := wp E.1 E.2.1 (rmQ 1 0 0) "InsuredFlame" "roundFigure" cX0_roundFigure 5 (some .int) (Zm E.2.1 0 0 (QI E.2.2.1 E.2.2.2.1 E.2.2.2.2 Q)) pc ls st E.2.2.1 E.2.2.2.1 E.2.2.2.2 V 0 0
def c0_roundFigure (E : eT) (x1 : Int32) (V : vT) (Q : Int32 → vT → Prop) : Prop := MOk E.1 E.2.1 1 yX0_roundFigure cX0_roundFigure 5 (some .int) [vr 16, vi x1] E.2.2.1 E.2.2.2.1 E.2.2.2.2 V 0 0 (QI E.2.2.1 E.2.2.2.1 E.2.2.2.2 Q)
def w0_ruin (E : eT) (Q : Int32 → vT → Prop) (pc : Nat) (ls : List (Option aV)) (st : List aV) (V : vT) : Prop := wp E.1 E.2.1 (rmQ 2 0 0) "InsuredFlame" "ruin" cX0_ruin 7 (some .int) (Zm E.2.1 0 0 (QI E.2.2.1 E.2.2.2.1 E.2.2.2.2 Q)) pc ls st E.2.2.1 E.2.2.2.1 E.2.2.2.2 V 0 0
def c0_ruin (E : eT) (x1 : Int32) (x2 : Int32) (x3 : Int32) (V : vT) (Q : Int32 → vT → Prop) : Prop := MOk E.1 E.2.1 2 yX0_ruin cX0_ruin 7 (some .int) [vr 16, vi x1, vi x2, vi x3] E.2.2.1 E.2.2.2.1 E.2.2.2.2 V 0 0 (QI E.2.2.1 E.2.2.2.1 E.2.2.2.2 Q)
def w0_owedBy (E : eT) (Q : Int32 → vT → Prop) (pc : Nat) (ls : List (Option aV)) (st : List aV) (V : vT) : Prop := wp E.1 E.2.1 (rmQ 1 0 0) "InsuredFlame" "owedBy" cX0_owedBy 6 (some .int) (Zm E.2.1 0 0 (QI E.2.2.1 E.2.2.2.1 E.2.2.2.2 Q)) pc ls st E.2.2.1 E.2.2.2.1 E.2.2.2.2 V 0 0
def c0_owedBy (E : eT) (x1 : Int32) (x2 : Int32) (x3 : Int32) (V : vT) (Q : Int32 → vT → Prop) : Prop := MOk E.1 E.2.1 1 yX0_owedBy cX0_owedBy 6 (some .int) [vr 16, vi x1, vi x2, vi x3] E.2.2.1 E.2.2.2.1 E.2.2.2.2 V 0 0 (QI E.2.2.1 E.2.2.2.1 E.2.2.2.2 Q)
def w0_owedTo (E : eT) (Q : Int32 → vT → Prop) (pc : Nat) (ls : List (Option aV)) (st : List aV) (V : vT) : Prop := wp E.1 E.2.1 (rmQ 1 0 0) "InsuredFlame" "owedTo" cX0_owedTo 6 (some .int) (Zm E.2.1 0 0 (QI E.2.2.1 E.2.2.2.1 E.2.2.2.2 Q)) pc ls st E.2.2.1 E.2.2.2.1 E.2.2.2.2 V 0 0
def c0_owedTo (E : eT) (x1 : Int32) (x2 : Int32) (x3 : Int32) (V : vT) (Q : Int32 → vT → Prop) : Prop := MOk E.1 E.2.1 1 yX0_owedTo cX0_owedTo 6 (some .int) [vr 16, vi x1, vi x2, vi x3] E.2.2.1 E.2.2.2.1 E.2.2.2.2 V 0 0 (QI E.2.2.1 E.2.2.2.1 E.2.2.2.2 Q)
def w0_carried (E : eT) (Q : Int32 → vT → Prop) (pc : Nat) (ls : List (Option aV)) (st : List aV) (V : vT) : Prop := wp E.1 E.2.1 (rmQ 2 0 0) "InsuredFlame" "carried" cX0_carried 4 (some .int) (Zm E.2.1 0 0 (QI E.2.2.1 E.2.2.2.1 E.2.2.2.2 Q)) pc ls st E.2.2.1 E.2.2.2.1 E.2.2.2.2 V 0 0
def c0_carried (E : eT) (x1 : Int32) (V : vT) (Q : Int32 → vT → Prop) : Prop := MOk E.1 E.2.1 2 yX0_carried cX0_carried 4 (some .int) [vr 16, vi x1] E.2.2.1 E.2.2.2.1 E.2.2.2.2 V 0 0 (QI E.2.2.1 E.2.2.2.1 E.2.2.2.2 Q)
def w0_sorts (E : eT) (Q : vT → Prop) (pc : Nat) (ls : List (Option aV)) (st : List aV) (V : vT) : Prop := wp E.1 E.2.1 (rmQ 1 0 0) "InsuredFlame" "sorts" cX0_sorts 4 none (Zm E.2.1 0 0 (QV E.2.2.1 E.2.2.2.1 E.2.2.2.2 Q)) pc ls st E.2.2.1 E.2.2.2.1 E.2.2.2.2 V 0 0
def c0_sorts (E : eT) (x1 : Int32) (V : vT) (Q : vT → Prop) : Prop := MOk E.1 E.2.1 1 yX0_sorts cX0_sorts 4 none [vr 16, vi x1] E.2.2.1 E.2.2.2.1 E.2.2.2.2 V 0 0 (QV E.2.2.1 E.2.2.2.1 E.2.2.2.2 Q)
def w0_isInTime (E : eT) (Q : Int32 → vT → Prop) (pc : Nat) (ls : List (Option aV)) (st : List aV) (V : vT) : Prop := wp E.1 E.2.1 (rmQ 1 0 0) "InsuredFlame" "isInTime" cX0_isInTime 5 (some .boolean) (Zm E.2.1 0 0 (QI E.2.2.1 E.2.2.2.1 E.2.2.2.2 Q)) pc ls st E.2.2.1 E.2.2.2.1 E.2.2.2.2 V 0 0
def c0_isInTime (E : eT) (x1 : Int32) (x2 : Int32) (V : vT) (Q : Int32 → vT → Prop) : Prop := MOk E.1 E.2.1 1 yX0_isInTime cX0_isInTime 5 (some .boolean) [vr 16, vi x1, vi x2] E.2.2.1 E.2.2.2.1 E.2.2.2.2 V 0 0 (QI E.2.2.1 E.2.2.2.1 E.2.2.2.2 Q)
def w0_premium (E : eT) (Q : Int32 → vT → Prop) (pc : Nat) (ls : List (Option aV)) (st : List aV) (V : vT) : Prop := wp E.1 E.2.1 (rmQ 1 0 0) "InsuredFlame" "premium" cX0_premium 6 (some .int) (Zm E.2.1 0 0 (QI E.2.2.1 E.2.2.2.1 E.2.2.2.2 Q)) pc ls st E.2.2.1 E.2.2.2.1 E.2.2.2.2 V 0 0
def c0_premium (E : eT) (x1 : Int32) (x2 : Int32) (V : vT) (Q : Int32 → vT → Prop) : Prop := MOk E.1 E.2.1 1 yX0_premium cX0_premium 6 (some .int) [vr 16, vi x1, vi x2] E.2.2.1 E.2.2.2.1 E.2.2.2.2 V 0 0 (QI E.2.2.1 E.2.2.2.1 E.2.2.2.2 Q)
def w0_seed (E : eT) (Q : Int32 → vT → Prop) (pc : Nat) (ls : List (Option aV)) (st : List aV) (V : vT) : Prop := wp E.1 E.2.1 (rmQ 1 0 0) "InsuredFlame" "seed" cX0_seed 2 (some .boolean) (Zm E.2.1 0 0 (QI E.2.2.1 E.2.2.2.1 E.2.2.2.2 Q)) pc ls st E.2.2.1 E.2.2.2.1 E.2.2.2.2 V 0 0
def c0_seed (E : eT) (x1 : Int32) (V : vT) (Q : Int32 → vT → Prop) : Prop := MOk E.1 E.2.1 1 yX0_seed cX0_seed 2 (some .boolean) [vr 16, vi x1] E.2.2.1 E.2.2.2.1 E.2.2.2.2 V 0 0 (QI E.2.2.1 E.2.2.2.1 E.2.2.2.2 Q)
def w0_keep (E : eT) (Q : Int32 → vT → Prop) (pc : Nat) (ls : List (Option aV)) (st : List aV) (V : vT) : Prop := wp E.1 E.2.1 (rmQ 2 0 0) "InsuredFlame" "keep" cX0_keep 1 (some .int) (Zm E.2.1 0 0 (QI E.2.2.1 E.2.2.2.1 E.2.2.2.2 Q)) pc ls st E.2.2.1 E.2.2.2.1 E.2.2.2.2 V 0 0
def c0_keep (E : eT)  (V : vT) (Q : Int32 → vT → Prop) : Prop := MOk E.1 E.2.1 2 yX0_keep cX0_keep 1 (some .int) [vr 16] E.2.2.1 E.2.2.2.1 E.2.2.2.2 V 0 0 (QI E.2.2.1 E.2.2.2.1 E.2.2.2.2 Q)
def w0_undo (E : eT) (Q : Int32 → vT → Prop) (pc : Nat) (ls : List (Option aV)) (st : List aV) (V : vT) : Prop := wp E.1 E.2.1 (rmQ 2 0 0) "InsuredFlame" "undo" cX0_undo 1 (some .boolean) (Zm E.2.1 0 0 (QI E.2.2.1 E.2.2.2.1 E.2.2.2.2 Q)) pc ls st E.2.2.1 E.2.2.2.1 E.2.2.2.2 V 0 0
def c0_undo (E : eT)  (V : vT) (Q : Int32 → vT → Prop) : Prop := MOk E.1 E.2.1 2 yX0_undo cX0_undo 1 (some .boolean) [vr 16] E.2.2.1 E.2.2.2.1 E.2.2.2.2 V 0 0 (QI E.2.2.1 E.2.2.2.1 E.2.2.2.2 Q)
def w0_check (E : eT) (Q : Int32 → vT → Prop) (pc : Nat) (ls : List (Option aV)) (st : List aV) (V : vT) : Prop := wp E.1 E.2.1 (rmQ 2 0 0) "InsuredFlame" "check" cX0_check 3 (some .int) (Zm E.2.1 0 0 (QI E.2.2.1 E.2.2.2.1 E.2.2.2.2 Q)) pc ls st E.2.2.1 E.2.2.2.1 E.2.2.2.2 V 0 0
def c0_check (E : eT) (x1 : Int32) (V : vT) (Q : Int32 → vT → Prop) : Prop := MOk E.1 E.2.1 2 yX0_check cX0_check 3 (some .int) [vr 16, vi x1] E.2.2.1 E.2.2.2.1 E.2.2.2.2 V 0 0 (QI E.2.2.1 E.2.2.2.1 E.2.2.2.2 Q)
def w0_count (E : eT) (Q : Int32 → vT → Prop) (pc : Nat) (ls : List (Option aV)) (st : List aV) (V : vT) : Prop := wp E.1 E.2.1 (rmQ 3 0 0) "InsuredFlame" "count" cX0_count 2 (some .int) (Zm E.2.1 0 0 (QI E.2.2.1 E.2.2.2.1 E.2.2.2.2 Q)) pc ls st E.2.2.1 E.2.2.2.1 E.2.2.2.2 V 0 0
def c0_count (E : eT) (x1 : Int32) (V : vT) (Q : Int32 → vT → Prop) : Prop := MOk E.1 E.2.1 3 yX0_count cX0_count 2 (some .int) [vr 16, vi x1] E.2.2.1 E.2.2.2.1 E.2.2.2.2 V 0 0 (QI E.2.2.1 E.2.2.2.1 E.2.2.2.2 Q)
def w0_toldThings (E : eT) (Q : Int32 → vT → Prop) (pc : Nat) (ls : List (Option aV)) (st : List aV) (V : vT) : Prop := wp E.1 E.2.1 (rmQ 2 0 0) "InsuredFlame" "toldThings" cX0_toldThings 3 (some .int) (Zm E.2.1 0 0 (QI E.2.2.1 E.2.2.2.1 E.2.2.2.2 Q)) pc ls st E.2.2.1 E.2.2.2.1 E.2.2.2.2 V 0 0
def c0_toldThings (E : eT)  (V : vT) (Q : Int32 → vT → Prop) : Prop := MOk E.1 E.2.1 2 yX0_toldThings cX0_toldThings 3 (some .int) [vr 16] E.2.2.1 E.2.2.2.1 E.2.2.2.2 V 0 0 (QI E.2.2.1 E.2.2.2.1 E.2.2.2.2 Q)
def w2_of (E : eT) (Q : vT → Prop) (pc : Nat) (ls : List (Option aV)) (st : List aV) (V : vT) : Prop := wp E.1 E.2.1 (rmQ 0 0 0) "InsuredFlame$Moment" "of" cX2_of 6 (some (.object "InsuredFlame$Moment")) (Zm E.2.1 0 0 (QR E.2.2.1 E.2.2.2.1 E.2.2.2.2 (fun r9 V9 => r9 = some 18 ∧ Q V9))) pc ls st E.2.2.1 E.2.2.2.1 E.2.2.2.2 V 0 0
def c2_of (E : eT) (x1 : Int32) (x2 : Int32) (x3 : Int32) (x4 : Int32) (x5 : Int32) (V : vT) (Q : vT → Prop) : Prop := MOk E.1 E.2.1 0 yX2_of cX2_of 6 (some (.object "InsuredFlame$Moment")) [vr 18, vi x1, vi x2, vi x3, vi x4, vi x5] E.2.2.1 E.2.2.2.1 E.2.2.2.2 V 0 0 (QR E.2.2.1 E.2.2.2.1 E.2.2.2.2 (fun r9 V9 => r9 = some 18 ∧ Q V9))
def w2_with (E : eT) (Q : vT → Prop) (pc : Nat) (ls : List (Option aV)) (st : List aV) (V : vT) : Prop := wp E.1 E.2.1 (rmQ 0 0 0) "InsuredFlame$Moment" "with" cX2_with 5 (some (.object "InsuredFlame$Moment")) (Zm E.2.1 0 0 (QR E.2.2.1 E.2.2.2.1 E.2.2.2.2 (fun r9 V9 => r9 = some 18 ∧ Q V9))) pc ls st E.2.2.1 E.2.2.2.1 E.2.2.2.2 V 0 0
def c2_with (E : eT) (x1 : Int32) (x2 : Int32) (x3 : Int32) (x4 : Int32) (V : vT) (Q : vT → Prop) : Prop := MOk E.1 E.2.1 0 yX2_with cX2_with 5 (some (.object "InsuredFlame$Moment")) [vr 18, vi x1, vi x2, vi x3, vi x4] E.2.2.1 E.2.2.2.1 E.2.2.2.2 V 0 0 (QR E.2.2.1 E.2.2.2.1 E.2.2.2.2 (fun r9 V9 => r9 = some 18 ∧ Q V9))
def w2_value (E : eT) (Q : Int32 → vT → Prop) (pc : Nat) (ls : List (Option aV)) (st : List aV) (V : vT) : Prop := wp E.1 E.2.1 (rmQ 0 0 0) "InsuredFlame$Moment" "value" cX2_value 2 (some .int) (Zm E.2.1 0 0 (QI E.2.2.1 E.2.2.2.1 E.2.2.2.2 Q)) pc ls st E.2.2.1 E.2.2.2.1 E.2.2.2.2 V 0 0
def c2_value (E : eT) (x1 : Int32) (V : vT) (Q : Int32 → vT → Prop) : Prop := MOk E.1 E.2.1 0 yX2_value cX2_value 2 (some .int) [vr 18, vi x1] E.2.2.1 E.2.2.2.1 E.2.2.2.2 V 0 0 (QI E.2.2.1 E.2.2.2.1 E.2.2.2.2 Q)
def w3_isNew (E : eT) (Q : vT → Prop) (pc : Nat) (ls : List (Option aV)) (st : List aV) (V : vT) : Prop := wp E.1 E.2.1 (rmQ 0 0 0) "InsuredFlame$Fire" "isNew" cX3_isNew 2 none (Zm E.2.1 0 0 (QV E.2.2.1 E.2.2.2.1 E.2.2.2.2 Q)) pc ls st E.2.2.1 E.2.2.2.1 E.2.2.2.2 V 0 0
def c3_isNew (E : eT) (f : Nat)  (V : vT) (Q : vT → Prop) : Prop := MOk E.1 E.2.1 0 yX3_isNew cX3_isNew 2 none [vr f] E.2.2.1 E.2.2.2.1 E.2.2.2.2 V 0 0 (QV E.2.2.1 E.2.2.2.1 E.2.2.2.2 Q)
def w3_takes (E : eT) (f : Nat) (Q : vT → Prop) (pc : Nat) (ls : List (Option aV)) (st : List aV) (V : vT) : Prop := wp E.1 E.2.1 (rmQ 1 0 0) "InsuredFlame$Fire" "takes" cX3_takes 3 (some (.object "InsuredFlame$Fire")) (Zm E.2.1 0 0 (QR E.2.2.1 E.2.2.2.1 E.2.2.2.2 (fun r9 V9 => r9 = some f ∧ Q V9))) pc ls st E.2.2.1 E.2.2.2.1 E.2.2.2.2 V 0 0
def c3_takes (E : eT) (f : Nat) (a1 : Nat) (V : vT) (Q : vT → Prop) : Prop := MOk E.1 E.2.1 1 yX3_takes cX3_takes 3 (some (.object "InsuredFlame$Fire")) [vr f, vr a1] E.2.2.1 E.2.2.2.1 E.2.2.2.2 V 0 0 (QR E.2.2.1 E.2.2.2.1 E.2.2.2.2 (fun r9 V9 => r9 = some f ∧ Q V9))
def w3_lights (E : eT) (Q : vT → Prop) (pc : Nat) (ls : List (Option aV)) (st : List aV) (V : vT) : Prop := wp E.1 E.2.1 (rmQ 0 0 0) "InsuredFlame$Fire" "lights" cX3_lights 3 none (Zm E.2.1 0 0 (QV E.2.2.1 E.2.2.2.1 E.2.2.2.2 Q)) pc ls st E.2.2.1 E.2.2.2.1 E.2.2.2.2 V 0 0
def c3_lights (E : eT) (f : Nat) (x1 : Int32) (x2 : Int32) (V : vT) (Q : vT → Prop) : Prop := MOk E.1 E.2.1 0 yX3_lights cX3_lights 3 none [vr f, vi x1, vi x2] E.2.2.1 E.2.2.2.1 E.2.2.2.2 V 0 0 (QV E.2.2.1 E.2.2.2.1 E.2.2.2.2 Q)
def w3_waters (E : eT) (Q : vT → Prop) (pc : Nat) (ls : List (Option aV)) (st : List aV) (V : vT) : Prop := wp E.1 E.2.1 (rmQ 0 0 0) "InsuredFlame$Fire" "waters" cX3_waters 2 none (Zm E.2.1 0 0 (QV E.2.2.1 E.2.2.2.1 E.2.2.2.2 Q)) pc ls st E.2.2.1 E.2.2.2.1 E.2.2.2.2 V 0 0
def c3_waters (E : eT) (f : Nat) (x1 : Int32) (V : vT) (Q : vT → Prop) : Prop := MOk E.1 E.2.1 0 yX3_waters cX3_waters 2 none [vr f, vi x1] E.2.2.1 E.2.2.2.1 E.2.2.2.2 V 0 0 (QV E.2.2.1 E.2.2.2.1 E.2.2.2.2 Q)
def w3_goes (E : eT) (f : Nat) (Q : vT → Prop) (pc : Nat) (ls : List (Option aV)) (st : List aV) (V : vT) : Prop := wp E.1 E.2.1 (rmQ 46 0 0) "InsuredFlame$Fire" "goes" cX3_goes 3 (some (.object "InsuredFlame$Fire")) (Zm E.2.1 0 0 (QR E.2.2.1 E.2.2.2.1 E.2.2.2.2 (fun r9 V9 => r9 = some f ∧ Q V9))) pc ls st E.2.2.1 E.2.2.2.1 E.2.2.2.2 V 0 0
def c3_goes (E : eT) (f : Nat) (x1 : Int32) (V : vT) (Q : vT → Prop) : Prop := MOk E.1 E.2.1 46 yX3_goes cX3_goes 3 (some (.object "InsuredFlame$Fire")) [vr f, vi x1] E.2.2.1 E.2.2.2.1 E.2.2.2.2 V 0 0 (QR E.2.2.1 E.2.2.2.1 E.2.2.2.2 (fun r9 V9 => r9 = some f ∧ Q V9))
def w3_minuteGoes (E : eT) (Q : vT → Prop) (pc : Nat) (ls : List (Option aV)) (st : List aV) (V : vT) : Prop := wp E.1 E.2.1 (rmQ 45 0 0) "InsuredFlame$Fire" "minuteGoes" cX3_minuteGoes 2 none (Zm E.2.1 0 0 (QV E.2.2.1 E.2.2.2.1 E.2.2.2.2 Q)) pc ls st E.2.2.1 E.2.2.2.1 E.2.2.2.2 V 0 0
def c3_minuteGoes (E : eT) (f : Nat)  (V : vT) (Q : vT → Prop) : Prop := MOk E.1 E.2.1 45 yX3_minuteGoes cX3_minuteGoes 2 none [vr f] E.2.2.1 E.2.2.2.1 E.2.2.2.2 V 0 0 (QV E.2.2.1 E.2.2.2.1 E.2.2.2.2 Q)
def w3_burns (E : eT) (Q : vT → Prop) (pc : Nat) (ls : List (Option aV)) (st : List aV) (V : vT) : Prop := wp E.1 E.2.1 (rmQ 44 0 0) "InsuredFlame$Fire" "burns" cX3_burns 6 none (Zm E.2.1 0 0 (QV E.2.2.1 E.2.2.2.1 E.2.2.2.2 Q)) pc ls st E.2.2.1 E.2.2.2.1 E.2.2.2.2 V 0 0
def c3_burns (E : eT) (f : Nat) (x1 : Int32) (V : vT) (Q : vT → Prop) : Prop := MOk E.1 E.2.1 44 yX3_burns cX3_burns 6 none [vr f, vi x1] E.2.2.1 E.2.2.2.1 E.2.2.2.2 V 0 0 (QV E.2.2.1 E.2.2.2.1 E.2.2.2.2 Q)
def w3_goesOver (E : eT) (Q : vT → Prop) (pc : Nat) (ls : List (Option aV)) (st : List aV) (V : vT) : Prop := wp E.1 E.2.1 (rmQ 43 0 0) "InsuredFlame$Fire" "goesOver" cX3_goesOver 6 none (Zm E.2.1 0 0 (QV E.2.2.1 E.2.2.2.1 E.2.2.2.2 Q)) pc ls st E.2.2.1 E.2.2.2.1 E.2.2.2.2 V 0 0
def c3_goesOver (E : eT) (f : Nat) (x1 : Int32) (x2 : Int32) (V : vT) (Q : vT → Prop) : Prop := MOk E.1 E.2.1 43 yX3_goesOver cX3_goesOver 6 none [vr f, vi x1, vi x2] E.2.2.1 E.2.2.2.1 E.2.2.2.2 V 0 0 (QV E.2.2.1 E.2.2.2.1 E.2.2.2.2 Q)
def w3_asked (E : eT) (Q : vT → Prop) (pc : Nat) (ls : List (Option aV)) (st : List aV) (V : vT) : Prop := wp E.1 E.2.1 (rmQ 4 0 0) "InsuredFlame$Fire" "asked" cX3_asked 5 (some (.object "InsuredFlame$Moment")) (Zm E.2.1 0 0 (QR E.2.2.1 E.2.2.2.1 E.2.2.2.2 (fun r9 V9 => r9 = some 18 ∧ Q V9))) pc ls st E.2.2.1 E.2.2.2.1 E.2.2.2.2 V 0 0
def c3_asked (E : eT) (f : Nat) (x1 : Int32) (x2 : Int32) (x3 : Int32) (x4 : Int32) (V : vT) (Q : vT → Prop) : Prop := MOk E.1 E.2.1 4 yX3_asked cX3_asked 5 (some (.object "InsuredFlame$Moment")) [vr f, vi x1, vi x2, vi x3, vi x4] E.2.2.1 E.2.2.2.1 E.2.2.2.2 V 0 0 (QR E.2.2.1 E.2.2.2.1 E.2.2.2.2 (fun r9 V9 => r9 = some 18 ∧ Q V9))
def w3_around (E : eT) (Q : Int32 → vT → Prop) (pc : Nat) (ls : List (Option aV)) (st : List aV) (V : vT) : Prop := wp E.1 E.2.1 (rmQ 3 0 0) "InsuredFlame$Fire" "around" cX3_around 4 (some .int) (Zm E.2.1 0 0 (QI E.2.2.1 E.2.2.2.1 E.2.2.2.2 Q)) pc ls st E.2.2.1 E.2.2.2.1 E.2.2.2.2 V 0 0
def c3_around (E : eT) (f : Nat) (x1 : Int32) (V : vT) (Q : Int32 → vT → Prop) : Prop := MOk E.1 E.2.1 3 yX3_around cX3_around 4 (some .int) [vr f, vi x1] E.2.2.1 E.2.2.2.1 E.2.2.2.2 V 0 0 (QI E.2.2.1 E.2.2.2.1 E.2.2.2.2 Q)
def w3_valueAt (E : eT) (Q : Int32 → vT → Prop) (pc : Nat) (ls : List (Option aV)) (st : List aV) (V : vT) : Prop := wp E.1 E.2.1 (rmQ 1 0 0) "InsuredFlame$Fire" "valueAt" cX3_valueAt 7 (some .int) (Zm E.2.1 0 0 (QI E.2.2.1 E.2.2.2.1 E.2.2.2.2 Q)) pc ls st E.2.2.1 E.2.2.2.1 E.2.2.2.2 V 0 0
def c3_valueAt (E : eT) (f : Nat) (x1 : Int32) (V : vT) (Q : Int32 → vT → Prop) : Prop := MOk E.1 E.2.1 1 yX3_valueAt cX3_valueAt 7 (some .int) [vr f, vi x1] E.2.2.1 E.2.2.2.1 E.2.2.2.2 V 0 0 (QI E.2.2.1 E.2.2.2.1 E.2.2.2.2 Q)
def w3_sumsAt (E : eT) (Q : Int32 → vT → Prop) (pc : Nat) (ls : List (Option aV)) (st : List aV) (V : vT) : Prop := wp E.1 E.2.1 (rmQ 1 0 0) "InsuredFlame$Fire" "sumsAt" cX3_sumsAt 7 (some .int) (Zm E.2.1 0 0 (QI E.2.2.1 E.2.2.2.1 E.2.2.2.2 Q)) pc ls st E.2.2.1 E.2.2.2.1 E.2.2.2.2 V 0 0
def c3_sumsAt (E : eT) (f : Nat) (x1 : Int32) (V : vT) (Q : Int32 → vT → Prop) : Prop := MOk E.1 E.2.1 1 yX3_sumsAt cX3_sumsAt 7 (some .int) [vr f, vi x1] E.2.2.1 E.2.2.2.1 E.2.2.2.2 V 0 0 (QI E.2.2.1 E.2.2.2.1 E.2.2.2.2 Q)
def w3_draw (E : eT) (Q : Int32 → vT → Prop) (pc : Nat) (ls : List (Option aV)) (st : List aV) (V : vT) : Prop := wp E.1 E.2.1 (rmQ 0 0 0) "InsuredFlame$Fire" "draw" cX3_draw 1 (some .int) (Zm E.2.1 0 0 (QI E.2.2.1 E.2.2.2.1 E.2.2.2.2 Q)) pc ls st E.2.2.1 E.2.2.2.1 E.2.2.2.2 V 0 0
def c3_draw (E : eT) (f : Nat)  (V : vT) (Q : Int32 → vT → Prop) : Prop := MOk E.1 E.2.1 0 yX3_draw cX3_draw 1 (some .int) [vr f] E.2.2.1 E.2.2.2.1 E.2.2.2.2 V 0 0 (QI E.2.2.1 E.2.2.2.1 E.2.2.2.2 Q)
def w3_those (E : eT) (Q : Int32 → vT → Prop) (pc : Nat) (ls : List (Option aV)) (st : List aV) (V : vT) : Prop := wp E.1 E.2.1 (rmQ 0 0 0) "InsuredFlame$Fire" "those" cX3_those 4 (some .int) (Zm E.2.1 0 0 (QI E.2.2.1 E.2.2.2.1 E.2.2.2.2 Q)) pc ls st E.2.2.1 E.2.2.2.1 E.2.2.2.2 V 0 0
def c3_those (E : eT) (f : Nat) (x1 : Int32) (V : vT) (Q : Int32 → vT → Prop) : Prop := MOk E.1 E.2.1 0 yX3_those cX3_those 4 (some .int) [vr f, vi x1] E.2.2.1 E.2.2.2.1 E.2.2.2.2 V 0 0 (QI E.2.2.1 E.2.2.2.1 E.2.2.2.2 Q)
def w3_lost (E : eT) (Q : Int32 → vT → Prop) (pc : Nat) (ls : List (Option aV)) (st : List aV) (V : vT) : Prop := wp E.1 E.2.1 (rmQ 0 0 0) "InsuredFlame$Fire" "lost" cX3_lost 6 (some .int) (Zm E.2.1 0 0 (QI E.2.2.1 E.2.2.2.1 E.2.2.2.2 Q)) pc ls st E.2.2.1 E.2.2.2.1 E.2.2.2.2 V 0 0
def c3_lost (E : eT) (f : Nat)  (V : vT) (Q : Int32 → vT → Prop) : Prop := MOk E.1 E.2.1 0 yX3_lost cX3_lost 6 (some .int) [vr f] E.2.2.1 E.2.2.2.1 E.2.2.2.2 V 0 0 (QI E.2.2.1 E.2.2.2.1 E.2.2.2.2 Q)
def w3_gone (E : eT) (Q : Int32 → vT → Prop) (pc : Nat) (ls : List (Option aV)) (st : List aV) (V : vT) : Prop := wp E.1 E.2.1 (rmQ 0 0 0) "InsuredFlame$Fire" "gone" cX3_gone 3 (some .int) (Zm E.2.1 0 0 (QI E.2.2.1 E.2.2.2.1 E.2.2.2.2 Q)) pc ls st E.2.2.1 E.2.2.2.1 E.2.2.2.2 V 0 0
def c3_gone (E : eT) (f : Nat)  (V : vT) (Q : Int32 → vT → Prop) : Prop := MOk E.1 E.2.1 0 yX3_gone cX3_gone 3 (some .int) [vr f] E.2.2.1 E.2.2.2.1 E.2.2.2.2 V 0 0 (QI E.2.2.1 E.2.2.2.1 E.2.2.2.2 Q)
def w3_thingsAt (E : eT) (Q : Int32 → vT → Prop) (pc : Nat) (ls : List (Option aV)) (st : List aV) (V : vT) : Prop := wp E.1 E.2.1 (rmQ 1 0 0) "InsuredFlame$Fire" "thingsAt" cX3_thingsAt 4 (some .int) (Zm E.2.1 0 0 (QI E.2.2.1 E.2.2.2.1 E.2.2.2.2 Q)) pc ls st E.2.2.1 E.2.2.2.1 E.2.2.2.2 V 0 0
def c3_thingsAt (E : eT) (f : Nat) (x1 : Int32) (V : vT) (Q : Int32 → vT → Prop) : Prop := MOk E.1 E.2.1 1 yX3_thingsAt cX3_thingsAt 4 (some .int) [vr f, vi x1] E.2.2.1 E.2.2.2.1 E.2.2.2.2 V 0 0 (QI E.2.2.1 E.2.2.2.1 E.2.2.2.2 Q)
def w4_takes (E : eT) (Q : vT → Prop) (pc : Nat) (ls : List (Option aV)) (st : List aV) (V : vT) : Prop := wp E.1 E.2.1 (rmQ 0 0 0) "InsuredFlame$Thing" "takes" cX4_takes 2 none (Zm E.2.1 0 0 (QV E.2.2.1 E.2.2.2.1 E.2.2.2.2 Q)) pc ls st E.2.2.1 E.2.2.2.1 E.2.2.2.2 V 0 0
def c4_takes (E : eT) (o : Nat) (a1 : Nat) (V : vT) (Q : vT → Prop) : Prop := MOk E.1 E.2.1 0 yX4_takes cX4_takes 2 none [vr o, vr a1] E.2.2.1 E.2.2.2.1 E.2.2.2.2 V 0 0 (QV E.2.2.1 E.2.2.2.1 E.2.2.2.2 Q)
def w4_isAt (E : eT) (Q : Int32 → vT → Prop) (pc : Nat) (ls : List (Option aV)) (st : List aV) (V : vT) : Prop := wp E.1 E.2.1 (rmQ 0 0 0) "InsuredFlame$Thing" "isAt" cX4_isAt 2 (some .boolean) (Zm E.2.1 0 0 (QI E.2.2.1 E.2.2.2.1 E.2.2.2.2 Q)) pc ls st E.2.2.1 E.2.2.2.1 E.2.2.2.2 V 0 0
def c4_isAt (E : eT) (o : Nat) (x1 : Int32) (V : vT) (Q : Int32 → vT → Prop) : Prop := MOk E.1 E.2.1 0 yX4_isAt cX4_isAt 2 (some .boolean) [vr o, vi x1] E.2.2.1 E.2.2.2.1 E.2.2.2.2 V 0 0 (QI E.2.2.1 E.2.2.2.1 E.2.2.2.2 Q)
def w4_paid (E : eT) (Q : Int32 → vT → Prop) (pc : Nat) (ls : List (Option aV)) (st : List aV) (V : vT) : Prop := wp E.1 E.2.1 (rmQ 0 0 0) "InsuredFlame$Thing" "paid" cX4_paid 1 (some .int) (Zm E.2.1 0 0 (QI E.2.2.1 E.2.2.2.1 E.2.2.2.2 Q)) pc ls st E.2.2.1 E.2.2.2.1 E.2.2.2.2 V 0 0
def c4_paid (E : eT) (o : Nat)  (V : vT) (Q : Int32 → vT → Prop) : Prop := MOk E.1 E.2.1 0 yX4_paid cX4_paid 1 (some .int) [vr o] E.2.2.1 E.2.2.2.1 E.2.2.2.2 V 0 0 (QI E.2.2.1 E.2.2.2.1 E.2.2.2.2 Q)
def w7_isGood (E : eT) (Q : Int32 → vT → Prop) (pc : Nat) (ls : List (Option aV)) (st : List aV) (V : vT) : Prop := wp E.1 E.2.1 (rmQ 0 0 0) "InsuredFlame$Reader" "isGood" cX7_isGood 1 (some .boolean) (Zm E.2.1 0 0 (QI E.2.2.1 E.2.2.2.1 E.2.2.2.2 Q)) pc ls st E.2.2.1 E.2.2.2.1 E.2.2.2.2 V 0 0
def c7_isGood (E : eT) (o : Nat)  (V : vT) (Q : Int32 → vT → Prop) : Prop := MOk E.1 E.2.1 0 yX7_isGood cX7_isGood 1 (some .boolean) [vr o] E.2.2.1 E.2.2.2.1 E.2.2.2.2 V 0 0 (QI E.2.2.1 E.2.2.2.1 E.2.2.2.2 Q)
def w7_here (E : eT) (Q : Int32 → vT → Prop) (pc : Nat) (ls : List (Option aV)) (st : List aV) (V : vT) : Prop := wp E.1 E.2.1 (rmQ 0 0 0) "InsuredFlame$Reader" "here" cX7_here 1 (some .int) (Zm E.2.1 0 0 (QI E.2.2.1 E.2.2.2.1 E.2.2.2.2 Q)) pc ls st E.2.2.1 E.2.2.2.1 E.2.2.2.2 V 0 0
def c7_here (E : eT) (o : Nat)  (V : vT) (Q : Int32 → vT → Prop) : Prop := MOk E.1 E.2.1 0 yX7_here cX7_here 1 (some .int) [vr o] E.2.2.1 E.2.2.2.1 E.2.2.2.2 V 0 0 (QI E.2.2.1 E.2.2.2.1 E.2.2.2.2 Q)
def w7_bad (E : eT) (Q : vT → Prop) (pc : Nat) (ls : List (Option aV)) (st : List aV) (V : vT) : Prop := wp E.1 E.2.1 (rmQ 0 0 0) "InsuredFlame$Reader" "bad" cX7_bad 3 none (Zm E.2.1 0 0 (QV E.2.2.1 E.2.2.2.1 E.2.2.2.2 Q)) pc ls st E.2.2.1 E.2.2.2.1 E.2.2.2.2 V 0 0
def c7_bad (E : eT) (o : Nat) (x1 : Int32) (x2 : Int32) (V : vT) (Q : vT → Prop) : Prop := MOk E.1 E.2.1 0 yX7_bad cX7_bad 3 none [vr o, vi x1, vi x2] E.2.2.1 E.2.2.2.1 E.2.2.2.2 V 0 0 (QV E.2.2.1 E.2.2.2.1 E.2.2.2.2 Q)
def w7_opens (E : eT) (Q : vT → Prop) (pc : Nat) (ls : List (Option aV)) (st : List aV) (V : vT) : Prop := wp E.1 E.2.1 (rmQ 1 0 0) "InsuredFlame$Reader" "opens" cX7_opens 1 none (Zm E.2.1 0 0 (QV E.2.2.1 E.2.2.2.1 E.2.2.2.2 Q)) pc ls st E.2.2.1 E.2.2.2.1 E.2.2.2.2 V 0 0
def c7_opens (E : eT) (o : Nat)  (V : vT) (Q : vT → Prop) : Prop := MOk E.1 E.2.1 1 yX7_opens cX7_opens 1 none [vr o] E.2.2.1 E.2.2.2.1 E.2.2.2.2 V 0 0 (QV E.2.2.1 E.2.2.2.1 E.2.2.2.2 Q)
def w7_must (E : eT) (Q : vT → Prop) (pc : Nat) (ls : List (Option aV)) (st : List aV) (V : vT) : Prop := wp E.1 E.2.1 (rmQ 1 0 0) "InsuredFlame$Reader" "must" cX7_must 2 none (Zm E.2.1 0 0 (QV E.2.2.1 E.2.2.2.1 E.2.2.2.2 Q)) pc ls st E.2.2.1 E.2.2.2.1 E.2.2.2.2 V 0 0
def c7_must (E : eT) (o : Nat) (x1 : Int32) (V : vT) (Q : vT → Prop) : Prop := MOk E.1 E.2.1 1 yX7_must cX7_must 2 none [vr o, vi x1] E.2.2.1 E.2.2.2.1 E.2.2.2.2 V 0 0 (QV E.2.2.1 E.2.2.2.1 E.2.2.2.2 Q)
def w7_seesDigit (E : eT) (Q : Int32 → vT → Prop) (pc : Nat) (ls : List (Option aV)) (st : List aV) (V : vT) : Prop := wp E.1 E.2.1 (rmQ 1 0 0) "InsuredFlame$Reader" "seesDigit" cX7_seesDigit 1 (some .boolean) (Zm E.2.1 0 0 (QI E.2.2.1 E.2.2.2.1 E.2.2.2.2 Q)) pc ls st E.2.2.1 E.2.2.2.1 E.2.2.2.2 V 0 0
def c7_seesDigit (E : eT) (o : Nat)  (V : vT) (Q : Int32 → vT → Prop) : Prop := MOk E.1 E.2.1 1 yX7_seesDigit cX7_seesDigit 1 (some .boolean) [vr o] E.2.2.1 E.2.2.2.1 E.2.2.2.2 V 0 0 (QI E.2.2.1 E.2.2.2.1 E.2.2.2.2 Q)
def w7_number (E : eT) (Q : Int32 → vT → Prop) (pc : Nat) (ls : List (Option aV)) (st : List aV) (V : vT) : Prop := wp E.1 E.2.1 (rmQ 2 0 0) "InsuredFlame$Reader" "number" cX7_number 3 (some .int) (Zm E.2.1 0 0 (QI E.2.2.1 E.2.2.2.1 E.2.2.2.2 Q)) pc ls st E.2.2.1 E.2.2.2.1 E.2.2.2.2 V 0 0
def c7_number (E : eT) (o : Nat)  (V : vT) (Q : Int32 → vT → Prop) : Prop := MOk E.1 E.2.1 2 yX7_number cX7_number 3 (some .int) [vr o] E.2.2.1 E.2.2.2.1 E.2.2.2.2 V 0 0 (QI E.2.2.1 E.2.2.2.1 E.2.2.2.2 Q)
def w16s_sees (E : eT) (Q : Int32 → vT → Prop) (pc : Nat) (ls : List (Option aV)) (st : List aV) (V : vT) : Prop := wp E.1 E.2.1 (rmQ 1 0 0) "InsuredFlame$Scribe" "sees" cX16_sees 3 (some .boolean) (Zm E.2.1 0 0 (QI E.2.2.1 E.2.2.2.1 E.2.2.2.2 Q)) pc ls st E.2.2.1 E.2.2.2.1 E.2.2.2.2 V 0 0
def c16s_sees (E : eT) (o : Nat) (x1 : Int32) (x2 : Int32) (V : vT) (Q : Int32 → vT → Prop) : Prop := MOk E.1 E.2.1 1 yX16_sees cX16_sees 3 (some .boolean) [vr o, vi x1, vi x2] E.2.2.1 E.2.2.2.1 E.2.2.2.2 V 0 0 (QI E.2.2.1 E.2.2.2.1 E.2.2.2.2 Q)
def w16c_sees (E : eT) (Q : Int32 → vT → Prop) (pc : Nat) (ls : List (Option aV)) (st : List aV) (V : vT) : Prop := wp E.1 E.2.1 (rmQ 1 0 0) "InsuredFlame$Scribe" "sees" cX16_sees 3 (some .boolean) (Zm E.2.1 0 0 (QI E.2.2.1 E.2.2.2.1 E.2.2.2.2 Q)) pc ls st E.2.2.1 E.2.2.2.1 E.2.2.2.2 V 0 0
def c16c_sees (E : eT) (o : Nat) (x1 : Int32) (x2 : Int32) (V : vT) (Q : Int32 → vT → Prop) : Prop := MOk E.1 E.2.1 1 yX16_sees cX16_sees 3 (some .boolean) [vr o, vi x1, vi x2] E.2.2.1 E.2.2.2.1 E.2.2.2.2 V 0 0 (QI E.2.2.1 E.2.2.2.1 E.2.2.2.2 Q)
def w16s_here (E : eT) (Q : Int32 → vT → Prop) (pc : Nat) (ls : List (Option aV)) (st : List aV) (V : vT) : Prop := wp E.1 E.2.1 (rmQ 0 0 0) "InsuredFlame$Scribe" "here" cX16_here 1 (some .int) (Zm E.2.1 0 0 (QI E.2.2.1 E.2.2.2.1 E.2.2.2.2 Q)) pc ls st E.2.2.1 E.2.2.2.1 E.2.2.2.2 V 0 0
def c16s_here (E : eT) (o : Nat)  (V : vT) (Q : Int32 → vT → Prop) : Prop := MOk E.1 E.2.1 0 yX16_here cX16_here 1 (some .int) [vr o] E.2.2.1 E.2.2.2.1 E.2.2.2.2 V 0 0 (QI E.2.2.1 E.2.2.2.1 E.2.2.2.2 Q)
def w16c_here (E : eT) (Q : Int32 → vT → Prop) (pc : Nat) (ls : List (Option aV)) (st : List aV) (V : vT) : Prop := wp E.1 E.2.1 (rmQ 0 0 0) "InsuredFlame$Scribe" "here" cX16_here 1 (some .int) (Zm E.2.1 0 0 (QI E.2.2.1 E.2.2.2.1 E.2.2.2.2 Q)) pc ls st E.2.2.1 E.2.2.2.1 E.2.2.2.2 V 0 0
def c16c_here (E : eT) (o : Nat)  (V : vT) (Q : Int32 → vT → Prop) : Prop := MOk E.1 E.2.1 0 yX16_here cX16_here 1 (some .int) [vr o] E.2.2.1 E.2.2.2.1 E.2.2.2.2 V 0 0 (QI E.2.2.1 E.2.2.2.1 E.2.2.2.2 Q)
def w16s_place (E : eT) (Q : Int32 → vT → Prop) (pc : Nat) (ls : List (Option aV)) (st : List aV) (V : vT) : Prop := wp E.1 E.2.1 (rmQ 0 0 0) "InsuredFlame$Scribe" "place" cX16_place 1 (some .int) (Zm E.2.1 0 0 (QI E.2.2.1 E.2.2.2.1 E.2.2.2.2 Q)) pc ls st E.2.2.1 E.2.2.2.1 E.2.2.2.2 V 0 0
def c16s_place (E : eT) (o : Nat)  (V : vT) (Q : Int32 → vT → Prop) : Prop := MOk E.1 E.2.1 0 yX16_place cX16_place 1 (some .int) [vr o] E.2.2.1 E.2.2.2.1 E.2.2.2.2 V 0 0 (QI E.2.2.1 E.2.2.2.1 E.2.2.2.2 Q)
def w16c_place (E : eT) (Q : Int32 → vT → Prop) (pc : Nat) (ls : List (Option aV)) (st : List aV) (V : vT) : Prop := wp E.1 E.2.1 (rmQ 0 0 0) "InsuredFlame$Scribe" "place" cX16_place 1 (some .int) (Zm E.2.1 0 0 (QI E.2.2.1 E.2.2.2.1 E.2.2.2.2 Q)) pc ls st E.2.2.1 E.2.2.2.1 E.2.2.2.2 V 0 0
def c16c_place (E : eT) (o : Nat)  (V : vT) (Q : Int32 → vT → Prop) : Prop := MOk E.1 E.2.1 0 yX16_place cX16_place 1 (some .int) [vr o] E.2.2.1 E.2.2.2.1 E.2.2.2.2 V 0 0 (QI E.2.2.1 E.2.2.2.1 E.2.2.2.2 Q)
def w16s_bad (E : eT) (Q : vT → Prop) (pc : Nat) (ls : List (Option aV)) (st : List aV) (V : vT) : Prop := wp E.1 E.2.1 (rmQ 0 0 0) "InsuredFlame$Scribe" "bad" cX16_bad 3 none (Zm E.2.1 0 0 (QV E.2.2.1 E.2.2.2.1 E.2.2.2.2 Q)) pc ls st E.2.2.1 E.2.2.2.1 E.2.2.2.2 V 0 0
def c16s_bad (E : eT) (o : Nat) (x1 : Int32) (x2 : Int32) (V : vT) (Q : vT → Prop) : Prop := MOk E.1 E.2.1 0 yX16_bad cX16_bad 3 none [vr o, vi x1, vi x2] E.2.2.1 E.2.2.2.1 E.2.2.2.2 V 0 0 (QV E.2.2.1 E.2.2.2.1 E.2.2.2.2 Q)
def w16c_bad (E : eT) (Q : vT → Prop) (pc : Nat) (ls : List (Option aV)) (st : List aV) (V : vT) : Prop := wp E.1 E.2.1 (rmQ 0 0 0) "InsuredFlame$Scribe" "bad" cX16_bad 3 none (Zm E.2.1 0 0 (QV E.2.2.1 E.2.2.2.1 E.2.2.2.2 Q)) pc ls st E.2.2.1 E.2.2.2.1 E.2.2.2.2 V 0 0
def c16c_bad (E : eT) (o : Nat) (x1 : Int32) (x2 : Int32) (V : vT) (Q : vT → Prop) : Prop := MOk E.1 E.2.1 0 yX16_bad cX16_bad 3 none [vr o, vi x1, vi x2] E.2.2.1 E.2.2.2.1 E.2.2.2.2 V 0 0 (QV E.2.2.1 E.2.2.2.1 E.2.2.2.2 Q)
def w16s_isGood (E : eT) (Q : Int32 → vT → Prop) (pc : Nat) (ls : List (Option aV)) (st : List aV) (V : vT) : Prop := wp E.1 E.2.1 (rmQ 0 0 0) "InsuredFlame$Scribe" "isGood" cX16_isGood 1 (some .boolean) (Zm E.2.1 0 0 (QI E.2.2.1 E.2.2.2.1 E.2.2.2.2 Q)) pc ls st E.2.2.1 E.2.2.2.1 E.2.2.2.2 V 0 0
def c16s_isGood (E : eT) (o : Nat)  (V : vT) (Q : Int32 → vT → Prop) : Prop := MOk E.1 E.2.1 0 yX16_isGood cX16_isGood 1 (some .boolean) [vr o] E.2.2.1 E.2.2.2.1 E.2.2.2.2 V 0 0 (QI E.2.2.1 E.2.2.2.1 E.2.2.2.2 Q)
def w16c_isGood (E : eT) (Q : Int32 → vT → Prop) (pc : Nat) (ls : List (Option aV)) (st : List aV) (V : vT) : Prop := wp E.1 E.2.1 (rmQ 0 0 0) "InsuredFlame$Scribe" "isGood" cX16_isGood 1 (some .boolean) (Zm E.2.1 0 0 (QI E.2.2.1 E.2.2.2.1 E.2.2.2.2 Q)) pc ls st E.2.2.1 E.2.2.2.1 E.2.2.2.2 V 0 0
def c16c_isGood (E : eT) (o : Nat)  (V : vT) (Q : Int32 → vT → Prop) : Prop := MOk E.1 E.2.1 0 yX16_isGood cX16_isGood 1 (some .boolean) [vr o] E.2.2.1 E.2.2.2.1 E.2.2.2.2 V 0 0 (QI E.2.2.1 E.2.2.2.1 E.2.2.2.2 Q)
def w16s_goes (E : eT) (Q : vT → Prop) (pc : Nat) (ls : List (Option aV)) (st : List aV) (V : vT) : Prop := wp E.1 E.2.1 (rmQ 0 0 0) "InsuredFlame$Scribe" "goes" cX16_goes 1 none (Zm E.2.1 0 0 (QV E.2.2.1 E.2.2.2.1 E.2.2.2.2 Q)) pc ls st E.2.2.1 E.2.2.2.1 E.2.2.2.2 V 0 0
def c16s_goes (E : eT) (o : Nat)  (V : vT) (Q : vT → Prop) : Prop := MOk E.1 E.2.1 0 yX16_goes cX16_goes 1 none [vr o] E.2.2.1 E.2.2.2.1 E.2.2.2.2 V 0 0 (QV E.2.2.1 E.2.2.2.1 E.2.2.2.2 Q)
def w16c_goes (E : eT) (Q : vT → Prop) (pc : Nat) (ls : List (Option aV)) (st : List aV) (V : vT) : Prop := wp E.1 E.2.1 (rmQ 0 0 0) "InsuredFlame$Scribe" "goes" cX16_goes 1 none (Zm E.2.1 0 0 (QV E.2.2.1 E.2.2.2.1 E.2.2.2.2 Q)) pc ls st E.2.2.1 E.2.2.2.1 E.2.2.2.2 V 0 0
def c16c_goes (E : eT) (o : Nat)  (V : vT) (Q : vT → Prop) : Prop := MOk E.1 E.2.1 0 yX16_goes cX16_goes 1 none [vr o] E.2.2.1 E.2.2.2.1 E.2.2.2.2 V 0 0 (QV E.2.2.1 E.2.2.2.1 E.2.2.2.2 Q)
def w16s_isEnd (E : eT) (Q : Int32 → vT → Prop) (pc : Nat) (ls : List (Option aV)) (st : List aV) (V : vT) : Prop := wp E.1 E.2.1 (rmQ 0 0 0) "InsuredFlame$Scribe" "isEnd" cX16_isEnd 1 (some .boolean) (Zm E.2.1 0 0 (QI E.2.2.1 E.2.2.2.1 E.2.2.2.2 Q)) pc ls st E.2.2.1 E.2.2.2.1 E.2.2.2.2 V 0 0
def c16s_isEnd (E : eT) (o : Nat)  (V : vT) (Q : Int32 → vT → Prop) : Prop := MOk E.1 E.2.1 0 yX16_isEnd cX16_isEnd 1 (some .boolean) [vr o] E.2.2.1 E.2.2.2.1 E.2.2.2.2 V 0 0 (QI E.2.2.1 E.2.2.2.1 E.2.2.2.2 Q)
def w16c_isEnd (E : eT) (Q : Int32 → vT → Prop) (pc : Nat) (ls : List (Option aV)) (st : List aV) (V : vT) : Prop := wp E.1 E.2.1 (rmQ 0 0 0) "InsuredFlame$Scribe" "isEnd" cX16_isEnd 1 (some .boolean) (Zm E.2.1 0 0 (QI E.2.2.1 E.2.2.2.1 E.2.2.2.2 Q)) pc ls st E.2.2.1 E.2.2.2.1 E.2.2.2.2 V 0 0
def c16c_isEnd (E : eT) (o : Nat)  (V : vT) (Q : Int32 → vT → Prop) : Prop := MOk E.1 E.2.1 0 yX16_isEnd cX16_isEnd 1 (some .boolean) [vr o] E.2.2.1 E.2.2.2.1 E.2.2.2.2 V 0 0 (QI E.2.2.1 E.2.2.2.1 E.2.2.2.2 Q)
def w16s_answer (E : eT) (Q : Int32 → vT → Prop) (pc : Nat) (ls : List (Option aV)) (st : List aV) (V : vT) : Prop := wp E.1 E.2.1 (rmQ 1 0 0) "InsuredFlame$Scribe" "answer" cX16_answer 2 (some .int) (Zm E.2.1 0 0 (QI E.2.2.1 E.2.2.2.1 E.2.2.2.2 Q)) pc ls st E.2.2.1 E.2.2.2.1 E.2.2.2.2 V 0 0
def c16s_answer (E : eT) (o : Nat) (x1 : Int32) (V : vT) (Q : Int32 → vT → Prop) : Prop := MOk E.1 E.2.1 1 yX16_answer cX16_answer 2 (some .int) [vr o, vi x1] E.2.2.1 E.2.2.2.1 E.2.2.2.2 V 0 0 (QI E.2.2.1 E.2.2.2.1 E.2.2.2.2 Q)
def w16c_answer (E : eT) (Q : Int32 → vT → Prop) (pc : Nat) (ls : List (Option aV)) (st : List aV) (V : vT) : Prop := wp E.1 E.2.1 (rmQ 1 0 0) "InsuredFlame$Scribe" "answer" cX16_answer 2 (some .int) (Zm E.2.1 0 0 (QI E.2.2.1 E.2.2.2.1 E.2.2.2.2 Q)) pc ls st E.2.2.1 E.2.2.2.1 E.2.2.2.2 V 0 0
def c16c_answer (E : eT) (o : Nat) (x1 : Int32) (V : vT) (Q : Int32 → vT → Prop) : Prop := MOk E.1 E.2.1 1 yX16_answer cX16_answer 2 (some .int) [vr o, vi x1] E.2.2.1 E.2.2.2.1 E.2.2.2.2 V 0 0 (QI E.2.2.1 E.2.2.2.1 E.2.2.2.2 Q)
def w17_read (E : eT) (Q : Int32 → vT → Prop) (pc : Nat) (ls : List (Option aV)) (st : List aV) (V : vT) : Prop := wp E.1 E.2.1 (rmQ 7 0 0) "InsuredFlame$Surveyor" "read" cX17_read 6 (some .int) (Zm E.2.1 0 0 (QI E.2.2.1 E.2.2.2.1 E.2.2.2.2 Q)) pc ls st E.2.2.1 E.2.2.2.1 E.2.2.2.2 V 0 0
def c17_read (E : eT) (o : Nat)  (V : vT) (Q : Int32 → vT → Prop) : Prop := MOk E.1 E.2.1 7 yX17_read cX17_read 6 (some .int) [vr o] E.2.2.1 E.2.2.2.1 E.2.2.2.2 V 0 0 (QI E.2.2.1 E.2.2.2.1 E.2.2.2.2 Q)
def w17_row (E : eT) (Q : vT → Prop) (pc : Nat) (ls : List (Option aV)) (st : List aV) (V : vT) : Prop := wp E.1 E.2.1 (rmQ 6 0 0) "InsuredFlame$Surveyor" "row" cX17_row 1 none (Zm E.2.1 0 0 (QV E.2.2.1 E.2.2.2.1 E.2.2.2.2 Q)) pc ls st E.2.2.1 E.2.2.2.1 E.2.2.2.2 V 0 0
def c17_row (E : eT) (o : Nat)  (V : vT) (Q : vT → Prop) : Prop := MOk E.1 E.2.1 6 yX17_row cX17_row 1 none [vr o] E.2.2.1 E.2.2.2.1 E.2.2.2.2 V 0 0 (QV E.2.2.1 E.2.2.2.1 E.2.2.2.2 Q)
def w17_kind (E : eT) (Q : Int32 → vT → Prop) (pc : Nat) (ls : List (Option aV)) (st : List aV) (V : vT) : Prop := wp E.1 E.2.1 (rmQ 4 0 0) "InsuredFlame$Surveyor" "kind" cX17_kind 1 (some .int) (Zm E.2.1 0 0 (QI E.2.2.1 E.2.2.2.1 E.2.2.2.2 Q)) pc ls st E.2.2.1 E.2.2.2.1 E.2.2.2.2 V 0 0
def c17_kind (E : eT) (o : Nat)  (V : vT) (Q : Int32 → vT → Prop) : Prop := MOk E.1 E.2.1 4 yX17_kind cX17_kind 1 (some .int) [vr o] E.2.2.1 E.2.2.2.1 E.2.2.2.2 V 0 0 (QI E.2.2.1 E.2.2.2.1 E.2.2.2.2 Q)
def w17_sign (E : eT) (Q : vT → Prop) (pc : Nat) (ls : List (Option aV)) (st : List aV) (V : vT) : Prop := wp E.1 E.2.1 (rmQ 5 0 0) "InsuredFlame$Surveyor" "sign" cX17_sign 5 none (Zm E.2.1 0 0 (QV E.2.2.1 E.2.2.2.1 E.2.2.2.2 Q)) pc ls st E.2.2.1 E.2.2.2.1 E.2.2.2.2 V 0 0
def c17_sign (E : eT) (o : Nat)  (V : vT) (Q : vT → Prop) : Prop := MOk E.1 E.2.1 5 yX17_sign cX17_sign 5 none [vr o] E.2.2.1 E.2.2.2.1 E.2.2.2.2 V 0 0 (QV E.2.2.1 E.2.2.2.1 E.2.2.2.2 Q)
def w18_read (E : eT) (Q : Int32 → vT → Prop) (pc : Nat) (ls : List (Option aV)) (st : List aV) (V : vT) : Prop := wp E.1 E.2.1 (rmQ 6 0 0) "InsuredFlame$Clerk" "read" cX18_read 1 (some .int) (Zm E.2.1 0 0 (QI E.2.2.1 E.2.2.2.1 E.2.2.2.2 Q)) pc ls st E.2.2.1 E.2.2.2.1 E.2.2.2.2 V 0 0
def c18_read (E : eT) (o : Nat)  (V : vT) (Q : Int32 → vT → Prop) : Prop := MOk E.1 E.2.1 6 yX18_read cX18_read 1 (some .int) [vr o] E.2.2.1 E.2.2.2.1 E.2.2.2.2 V 0 0 (QI E.2.2.1 E.2.2.2.1 E.2.2.2.2 Q)
def w18_line (E : eT) (Q : vT → Prop) (pc : Nat) (ls : List (Option aV)) (st : List aV) (V : vT) : Prop := wp E.1 E.2.1 (rmQ 5 0 0) "InsuredFlame$Clerk" "line" cX18_line 4 none (Zm E.2.1 0 0 (QV E.2.2.1 E.2.2.2.1 E.2.2.2.2 Q)) pc ls st E.2.2.1 E.2.2.2.1 E.2.2.2.2 V 0 0
def c18_line (E : eT) (o : Nat)  (V : vT) (Q : vT → Prop) : Prop := MOk E.1 E.2.1 5 yX18_line cX18_line 4 none [vr o] E.2.2.1 E.2.2.2.1 E.2.2.2.2 V 0 0 (QV E.2.2.1 E.2.2.2.1 E.2.2.2.2 Q)
def w18_thing (E : eT) (Q : vT → Prop) (pc : Nat) (ls : List (Option aV)) (st : List aV) (V : vT) : Prop := wp E.1 E.2.1 (rmQ 4 0 0) "InsuredFlame$Clerk" "thing" cX18_thing 6 none (Zm E.2.1 0 0 (QV E.2.2.1 E.2.2.2.1 E.2.2.2.2 Q)) pc ls st E.2.2.1 E.2.2.2.1 E.2.2.2.2 V 0 0
def c18_thing (E : eT) (o : Nat)  (V : vT) (Q : vT → Prop) : Prop := MOk E.1 E.2.1 4 yX18_thing cX18_thing 6 none [vr o] E.2.2.1 E.2.2.2.1 E.2.2.2.2 V 0 0 (QV E.2.2.1 E.2.2.2.1 E.2.2.2.2 Q)
def w18_number (E : eT) (Q : Int32 → vT → Prop) (pc : Nat) (ls : List (Option aV)) (st : List aV) (V : vT) : Prop := wp E.1 E.2.1 (rmQ 2 0 0) "InsuredFlame$Clerk" "number" cX18_number 4 (some .int) (Zm E.2.1 0 0 (QI E.2.2.1 E.2.2.2.1 E.2.2.2.2 Q)) pc ls st E.2.2.1 E.2.2.2.1 E.2.2.2.2 V 0 0
def c18_number (E : eT) (o : Nat) (x1 : Int32) (V : vT) (Q : Int32 → vT → Prop) : Prop := MOk E.1 E.2.1 2 yX18_number cX18_number 4 (some .int) [vr o, vi x1] E.2.2.1 E.2.2.2.1 E.2.2.2.2 V 0 0 (QI E.2.2.1 E.2.2.2.1 E.2.2.2.2 Q)
def w18_spot (E : eT) (Q : Int32 → vT → Prop) (pc : Nat) (ls : List (Option aV)) (st : List aV) (V : vT) : Prop := wp E.1 E.2.1 (rmQ 3 0 0) "InsuredFlame$Clerk" "spot" cX18_spot 3 (some .int) (Zm E.2.1 0 0 (QI E.2.2.1 E.2.2.2.1 E.2.2.2.2 Q)) pc ls st E.2.2.1 E.2.2.2.1 E.2.2.2.2 V 0 0
def c18_spot (E : eT) (o : Nat)  (V : vT) (Q : Int32 → vT → Prop) : Prop := MOk E.1 E.2.1 3 yX18_spot cX18_spot 3 (some .int) [vr o] E.2.2.1 E.2.2.2.1 E.2.2.2.2 V 0 0 (QI E.2.2.1 E.2.2.2.1 E.2.2.2.2 Q)
def w18_lit (E : eT) (Q : vT → Prop) (pc : Nat) (ls : List (Option aV)) (st : List aV) (V : vT) : Prop := wp E.1 E.2.1 (rmQ 4 0 0) "InsuredFlame$Clerk" "lit" cX18_lit 3 none (Zm E.2.1 0 0 (QV E.2.2.1 E.2.2.2.1 E.2.2.2.2 Q)) pc ls st E.2.2.1 E.2.2.2.1 E.2.2.2.2 V 0 0
def c18_lit (E : eT) (o : Nat)  (V : vT) (Q : vT → Prop) : Prop := MOk E.1 E.2.1 4 yX18_lit cX18_lit 3 none [vr o] E.2.2.1 E.2.2.2.1 E.2.2.2.2 V 0 0 (QV E.2.2.1 E.2.2.2.1 E.2.2.2.2 Q)
def w18_wet (E : eT) (Q : vT → Prop) (pc : Nat) (ls : List (Option aV)) (st : List aV) (V : vT) : Prop := wp E.1 E.2.1 (rmQ 4 0 0) "InsuredFlame$Clerk" "wet" cX18_wet 2 none (Zm E.2.1 0 0 (QV E.2.2.1 E.2.2.2.1 E.2.2.2.2 Q)) pc ls st E.2.2.1 E.2.2.2.1 E.2.2.2.2 V 0 0
def c18_wet (E : eT) (o : Nat)  (V : vT) (Q : vT → Prop) : Prop := MOk E.1 E.2.1 4 yX18_wet cX18_wet 2 none [vr o] E.2.2.1 E.2.2.2.1 E.2.2.2.2 V 0 0 (QV E.2.2.1 E.2.2.2.1 E.2.2.2.2 Q)
def wj0_indexOf (E : eT) (Q : Int32 → vT → Prop) (pc : Nat) (ls : List (Option aV)) (st : List aV) (V : vT) : Prop := wp E.1 E.2.1 (rmQ 3 0 0) "java/lang/String" "indexOf" cJ0_indexOf 2 (some .int) (Zm E.2.1 0 0 (QI E.2.2.1 E.2.2.2.1 E.2.2.2.2 Q)) pc ls st E.2.2.1 E.2.2.2.1 E.2.2.2.2 V 0 0
def cj0_indexOf (E : eT) (o : Nat) (x1 : Int32) (V : vT) (Q : Int32 → vT → Prop) : Prop := MOk E.1 E.2.1 3 yJ0_indexOf cJ0_indexOf 2 (some .int) [vr o, vi x1] E.2.2.1 E.2.2.2.1 E.2.2.2.2 V 0 0 (QI E.2.2.1 E.2.2.2.1 E.2.2.2.2 Q)
def wj0_indexOf_2 (E : eT) (Q : Int32 → vT → Prop) (pc : Nat) (ls : List (Option aV)) (st : List aV) (V : vT) : Prop := wp E.1 E.2.1 (rmQ 2 0 0) "java/lang/String" "indexOf" cJ0_indexOf_2 3 (some .int) (Zm E.2.1 0 0 (QI E.2.2.1 E.2.2.2.1 E.2.2.2.2 Q)) pc ls st E.2.2.1 E.2.2.2.1 E.2.2.2.2 V 0 0
def cj0_indexOf_2 (E : eT) (o : Nat) (x1 : Int32) (x2 : Int32) (V : vT) (Q : Int32 → vT → Prop) : Prop := MOk E.1 E.2.1 2 yJ0_indexOf_2 cJ0_indexOf_2 3 (some .int) [vr o, vi x1, vi x2] E.2.2.1 E.2.2.2.1 E.2.2.2.2 V 0 0 (QI E.2.2.1 E.2.2.2.1 E.2.2.2.2 Q)
def wj0_isLatin1 (E : eT) (Q : Int32 → vT → Prop) (pc : Nat) (ls : List (Option aV)) (st : List aV) (V : vT) : Prop := wp E.1 E.2.1 (rmQ 0 0 0) "java/lang/String" "isLatin1" cJ0_isLatin1 1 (some .boolean) (Zm E.2.1 0 0 (QI E.2.2.1 E.2.2.2.1 E.2.2.2.2 Q)) pc ls st E.2.2.1 E.2.2.2.1 E.2.2.2.2 V 0 0
def cj0_isLatin1 (E : eT) (o : Nat)  (V : vT) (Q : Int32 → vT → Prop) : Prop := MOk E.1 E.2.1 0 yJ0_isLatin1 cJ0_isLatin1 1 (some .boolean) [vr o] E.2.2.1 E.2.2.2.1 E.2.2.2.2 V 0 0 (QI E.2.2.1 E.2.2.2.1 E.2.2.2.2 Q)
def wj0_length (E : eT) (Q : Int32 → vT → Prop) (pc : Nat) (ls : List (Option aV)) (st : List aV) (V : vT) : Prop := wp E.1 E.2.1 (rmQ 1 0 0) "java/lang/String" "length" cJ0_length 1 (some .int) (Zm E.2.1 0 0 (QI E.2.2.1 E.2.2.2.1 E.2.2.2.2 Q)) pc ls st E.2.2.1 E.2.2.2.1 E.2.2.2.2 V 0 0
def cj0_length (E : eT) (o : Nat)  (V : vT) (Q : Int32 → vT → Prop) : Prop := MOk E.1 E.2.1 1 yJ0_length cJ0_length 1 (some .int) [vr o] E.2.2.1 E.2.2.2.1 E.2.2.2.2 V 0 0 (QI E.2.2.1 E.2.2.2.1 E.2.2.2.2 Q)
def wj0_coder (E : eT) (Q : Int32 → vT → Prop) (pc : Nat) (ls : List (Option aV)) (st : List aV) (V : vT) : Prop := wp E.1 E.2.1 (rmQ 0 0 0) "java/lang/String" "coder" cJ0_coder 1 (some .byte) (Zm E.2.1 0 0 (QI E.2.2.1 E.2.2.2.1 E.2.2.2.2 Q)) pc ls st E.2.2.1 E.2.2.2.1 E.2.2.2.2 V 0 0
def cj0_coder (E : eT) (o : Nat)  (V : vT) (Q : Int32 → vT → Prop) : Prop := MOk E.1 E.2.1 0 yJ0_coder cJ0_coder 1 (some .byte) [vr o] E.2.2.1 E.2.2.2.1 E.2.2.2.2 V 0 0 (QI E.2.2.1 E.2.2.2.1 E.2.2.2.2 Q)
def wj1_indexOf (E : eT) (Q : Int32 → vT → Prop) (pc : Nat) (ls : List (Option aV)) (st : List aV) (V : vT) : Prop := wp E.1 E.2.1 (rmQ 1 0 0) "java/lang/StringLatin1" "indexOf" cJ1_indexOf 4 (some .int) (Zm E.2.1 0 0 (QI E.2.2.1 E.2.2.2.1 E.2.2.2.2 Q)) pc ls st E.2.2.1 E.2.2.2.1 E.2.2.2.2 V 0 0
def cj1_indexOf (E : eT) (a1 : Nat) (x2 : Int32) (x3 : Int32) (x4 : Int32) (V : vT) (Q : Int32 → vT → Prop) : Prop := MOk E.1 E.2.1 1 yJ1_indexOf cJ1_indexOf 4 (some .int) [vr a1, vi x2, vi x3, vi x4] E.2.2.1 E.2.2.2.1 E.2.2.2.2 V 0 0 (QI E.2.2.1 E.2.2.2.1 E.2.2.2.2 Q)
def wj1_canEncode (E : eT) (Q : Int32 → vT → Prop) (pc : Nat) (ls : List (Option aV)) (st : List aV) (V : vT) : Prop := wp E.1 E.2.1 (rmQ 0 0 0) "java/lang/StringLatin1" "canEncode" cJ1_canEncode 1 (some .boolean) (Zm E.2.1 0 0 (QI E.2.2.1 E.2.2.2.1 E.2.2.2.2 Q)) pc ls st E.2.2.1 E.2.2.2.1 E.2.2.2.2 V 0 0
def cj1_canEncode (E : eT) (x1 : Int32) (V : vT) (Q : Int32 → vT → Prop) : Prop := MOk E.1 E.2.1 0 yJ1_canEncode cJ1_canEncode 1 (some .boolean) [vi x1] E.2.2.1 E.2.2.2.1 E.2.2.2.2 V 0 0 (QI E.2.2.1 E.2.2.2.1 E.2.2.2.2 Q)
def wj1_indexOfChar (E : eT) (Q : Int32 → vT → Prop) (pc : Nat) (ls : List (Option aV)) (st : List aV) (V : vT) : Prop := wp E.1 E.2.1 (rmQ 0 0 0) "java/lang/StringLatin1" "indexOfChar" cJ1_indexOfChar 6 (some .int) (Zm E.2.1 0 0 (QI E.2.2.1 E.2.2.2.1 E.2.2.2.2 Q)) pc ls st E.2.2.1 E.2.2.2.1 E.2.2.2.2 V 0 0
def cj1_indexOfChar (E : eT) (a1 : Nat) (x2 : Int32) (x3 : Int32) (x4 : Int32) (V : vT) (Q : Int32 → vT → Prop) : Prop := MOk E.1 E.2.1 0 yJ1_indexOfChar cJ1_indexOfChar 6 (some .int) [vr a1, vi x2, vi x3, vi x4] E.2.2.1 E.2.2.2.1 E.2.2.2.2 V 0 0 (QI E.2.2.1 E.2.2.2.1 E.2.2.2.2 Q)
def wj6_bitCount (E : eT) (Q : Int32 → vT → Prop) (pc : Nat) (ls : List (Option aV)) (st : List aV) (V : vT) : Prop := wp E.1 E.2.1 (rmQ 0 0 0) "java/lang/Integer" "bitCount" cJ6_bitCount 1 (some .int) (Zm E.2.1 0 0 (QI E.2.2.1 E.2.2.2.1 E.2.2.2.2 Q)) pc ls st E.2.2.1 E.2.2.2.1 E.2.2.2.2 V 0 0
def cj6_bitCount (E : eT) (x1 : Int32) (V : vT) (Q : Int32 → vT → Prop) : Prop := MOk E.1 E.2.1 0 yJ6_bitCount cJ6_bitCount 1 (some .int) [vi x1] E.2.2.1 E.2.2.2.1 E.2.2.2.2 V 0 0 (QI E.2.2.1 E.2.2.2.1 E.2.2.2.2 Q)
def w5_tells (E : eT) (Q : Int32 → vT → Prop) (pc : Nat) (ls : List (Option aV)) (st : List aV) (V : vT) : Prop := wp E.1 E.2.1 (rmQ 42 0 0) "InsuredFlame$Text" "tells" cX5_tells 4 (some .int) (Zm E.2.1 0 0 (QI E.2.2.1 E.2.2.2.1 E.2.2.2.2 Q)) pc ls st E.2.2.1 E.2.2.2.1 E.2.2.2.2 V 0 0
def c5_tells (E : eT) (o : Nat) (x1 : Int32) (V : vT) (Q : Int32 → vT → Prop) : Prop := MOk E.1 E.2.1 42 yX5_tells cX5_tells 4 (some .int) [vr o, vi x1, vr 18] E.2.2.1 E.2.2.2.1 E.2.2.2.2 V 0 0 (QI E.2.2.1 E.2.2.2.1 E.2.2.2.2 Q)
def w5_says (E : eT) (Q : Int32 → vT → Prop) (pc : Nat) (ls : List (Option aV)) (st : List aV) (V : vT) : Prop := wp E.1 E.2.1 (rmQ 42 0 0) "InsuredFlame$Text" "says" cX5_says 4 (some .boolean) (Zm E.2.1 0 0 (QI E.2.2.1 E.2.2.2.1 E.2.2.2.2 Q)) pc ls st E.2.2.1 E.2.2.2.1 E.2.2.2.2 V 0 0
def c5_says (E : eT) (o : Nat) (x1 : Int32) (V : vT) (Q : Int32 → vT → Prop) : Prop := MOk E.1 E.2.1 42 yX5_says cX5_says 4 (some .boolean) [vr o, vi x1, vr 18] E.2.2.1 E.2.2.2.1 E.2.2.2.2 V 0 0 (QI E.2.2.1 E.2.2.2.1 E.2.2.2.2 Q)
