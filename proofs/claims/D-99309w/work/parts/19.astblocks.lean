/-! THE COMPONENT: sums, conditions, the text: virtual calls -/
theorem fp8_7_1 {nm : String} : FPk "InsuredFlame$Sum" nm 7 1 0 := ⟨_, _, _, rfl, by decide, in_X2, tyX2_ok, Or.inl ⟨rfl, Or.inr ⟨_, nst q168 rfl⟩⟩, fun j hj hne => nmX2 j hj 0 (by decide) hne⟩
theorem fk8_7_1 : FLk "InsuredFlame$Sum" 7 1 0 := ⟨_, _, _, rfl, by decide, in_X2, tyX2_ok, Or.inr ⟨_, nst q168 rfl⟩⟩
theorem lk8_13_7 : LkU "InsuredFlame$Sum" 13 "InsuredFlame$Row" "InsuredFlame$Sum" ⟨"InsuredFlame$Sum", "worth", "(LInsuredFlame$Asked;)I"⟩ yX9_worth cX9_worth 4 (some .int) 1 := ⟨q958, q923, q936, q937, q129, q938, Or.inl (nst q922 rfl), by decide +kernel⟩
theorem lk8_13_8 : LkU "InsuredFlame$Sum" 13 "InsuredFlame$Number" "InsuredFlame$Sum" ⟨"InsuredFlame$Sum", "worth", "(LInsuredFlame$Asked;)I"⟩ yX10_worth cX10_worth 2 (some .int) 1 := ⟨q958, q923, q933, q934, q130, q935, Or.inl (nst q922 rfl), by decide +kernel⟩
theorem lk8_13_9 : LkU "InsuredFlame$Sum" 13 "InsuredFlame$Letter" "InsuredFlame$Sum" ⟨"InsuredFlame$Sum", "worth", "(LInsuredFlame$Asked;)I"⟩ yX11_worth cX11_worth 2 (some .int) 1 := ⟨q958, q923, q924, q925, q131, q926, Or.inl (nst q922 rfl), by decide +kernel⟩
theorem fp9_17_1 {nm : String} : FPk "InsuredFlame$Row" nm 17 1 0 := ⟨_, _, _, rfl, by decide, in_X2, tyX2_ok, Or.inl ⟨rfl, Or.inr ⟨_, nst q167 rfl⟩⟩, fun j hj hne => nmX2 j hj 0 (by decide) hne⟩
theorem fk9_13_7 : FLk "InsuredFlame$Row" 13 7 1 := ⟨_, _, _, rfl, by decide, in_X9, tyX9_ok, Or.inl q571⟩
theorem fk9_27_7 : FLk "InsuredFlame$Row" 27 7 2 := ⟨_, _, _, rfl, by decide, in_X9, tyX9_ok, Or.inl q572⟩
theorem lk9_23_7 : LkU "InsuredFlame$Row" 23 "InsuredFlame$Row" "InsuredFlame$Sum" ⟨"InsuredFlame$Sum", "worth", "(LInsuredFlame$Asked;)I"⟩ yX9_worth cX9_worth 4 (some .int) 1 := ⟨q939, q923, q936, q937, q129, q938, Or.inl (nst q922 rfl), by decide +kernel⟩
theorem lk9_23_8 : LkU "InsuredFlame$Row" 23 "InsuredFlame$Number" "InsuredFlame$Sum" ⟨"InsuredFlame$Sum", "worth", "(LInsuredFlame$Asked;)I"⟩ yX10_worth cX10_worth 2 (some .int) 1 := ⟨q939, q923, q933, q934, q130, q935, Or.inl (nst q922 rfl), by decide +kernel⟩
theorem lk9_23_9 : LkU "InsuredFlame$Row" 23 "InsuredFlame$Letter" "InsuredFlame$Sum" ⟨"InsuredFlame$Sum", "worth", "(LInsuredFlame$Asked;)I"⟩ yX11_worth cX11_worth 2 (some .int) 1 := ⟨q939, q923, q924, q925, q131, q926, Or.inl (nst q922 rfl), by decide +kernel⟩
theorem fk9_7_7 : FLk "InsuredFlame$Row" 7 7 0 := ⟨_, _, _, rfl, by decide, in_X9, tyX9_ok, Or.inl q570⟩
theorem lk9_31 : LkS "InsuredFlame$Row" 31 yX9_worked cX9_worked 4 (some .int) 4 := ⟨q940, q941, q129, q942, by decide +kernel⟩
theorem fk10_7_8 : FLk "InsuredFlame$Number" 7 8 0 := ⟨_, _, _, rfl, by decide, in_X10, tyX10_ok, Or.inl q551⟩
theorem fk11_7_9 : FLk "InsuredFlame$Letter" 7 9 0 := ⟨_, _, _, rfl, by decide, in_X11, tyX11_ok, Or.inl q562⟩
theorem lk11_13_1 : LkU "InsuredFlame$Letter" 13 "InsuredFlame$Moment" "InsuredFlame$Asked" ⟨"InsuredFlame$Asked", "value", "(I)I"⟩ yX2_value cX2_value 2 (some .int) 1 := ⟨q927, q929, q930, q931, q116, q932, Or.inl (nst q928 rfl), by decide +kernel⟩
theorem fk13_7_10 : FLk "InsuredFlame$Some" 7 10 0 := ⟨_, _, _, rfl, by decide, in_X13, tyX13_ok, Or.inl q628⟩
theorem fk13_13_10 : FLk "InsuredFlame$Some" 13 10 1 := ⟨_, _, _, rfl, by decide, in_X13, tyX13_ok, Or.inl q629⟩
theorem fk13_21_10 : FLk "InsuredFlame$Some" 21 10 2 := ⟨_, _, _, rfl, by decide, in_X13, tyX13_ok, Or.inl q630⟩
theorem lk13_17_10 : LkU "InsuredFlame$Some" 17 "InsuredFlame$Some" "InsuredFlame$Condition" ⟨"InsuredFlame$Condition", "holds", "(LInsuredFlame$Asked;)I"⟩ yX13_holds cX13_holds 4 (some .int) 1 := ⟨q949, q917, q950, q947, q133, q948, Or.inl (nst q916 rfl), by decide +kernel⟩
theorem lk13_17_11 : LkU "InsuredFlame$Some" 17 "InsuredFlame$Not" "InsuredFlame$Condition" ⟨"InsuredFlame$Condition", "holds", "(LInsuredFlame$Asked;)I"⟩ yX14_holds cX14_holds 3 (some .int) 1 := ⟨q949, q917, q943, q944, q134, q945, Or.inl (nst q916 rfl), by decide +kernel⟩
theorem lk13_17_12 : LkU "InsuredFlame$Some" 17 "InsuredFlame$Compared" "InsuredFlame$Condition" ⟨"InsuredFlame$Condition", "holds", "(LInsuredFlame$Asked;)I"⟩ yX15_holds cX15_holds 5 (some .int) 1 := ⟨q949, q917, q918, q919, q135, q920, Or.inl (nst q916 rfl), by decide +kernel⟩
theorem fk14_7_11 : FLk "InsuredFlame$Not" 7 11 0 := ⟨_, _, _, rfl, by decide, in_X14, tyX14_ok, Or.inl q604⟩
theorem lk14_13_10 : LkU "InsuredFlame$Not" 13 "InsuredFlame$Some" "InsuredFlame$Condition" ⟨"InsuredFlame$Condition", "holds", "(LInsuredFlame$Asked;)I"⟩ yX13_holds cX13_holds 4 (some .int) 1 := ⟨q946, q917, q950, q947, q133, q948, Or.inl (nst q916 rfl), by decide +kernel⟩
theorem lk14_13_11 : LkU "InsuredFlame$Not" 13 "InsuredFlame$Not" "InsuredFlame$Condition" ⟨"InsuredFlame$Condition", "holds", "(LInsuredFlame$Asked;)I"⟩ yX14_holds cX14_holds 3 (some .int) 1 := ⟨q946, q917, q943, q944, q134, q945, Or.inl (nst q916 rfl), by decide +kernel⟩
theorem lk14_13_12 : LkU "InsuredFlame$Not" 13 "InsuredFlame$Compared" "InsuredFlame$Condition" ⟨"InsuredFlame$Condition", "holds", "(LInsuredFlame$Asked;)I"⟩ yX15_holds cX15_holds 5 (some .int) 1 := ⟨q946, q917, q918, q919, q135, q920, Or.inl (nst q916 rfl), by decide +kernel⟩
theorem fp15_20_1 {nm : String} : FPk "InsuredFlame$Compared" nm 20 1 0 := ⟨_, _, _, rfl, by decide, in_X2, tyX2_ok, Or.inl ⟨rfl, Or.inr ⟨_, nst q166 rfl⟩⟩, fun j hj hne => nmX2 j hj 0 (by decide) hne⟩
theorem fk15_7_12 : FLk "InsuredFlame$Compared" 7 12 0 := ⟨_, _, _, rfl, by decide, in_X15, tyX15_ok, Or.inl q614⟩
theorem fk15_17_12 : FLk "InsuredFlame$Compared" 17 12 1 := ⟨_, _, _, rfl, by decide, in_X15, tyX15_ok, Or.inl q615⟩
theorem fk15_13_12 : FLk "InsuredFlame$Compared" 13 12 2 := ⟨_, _, _, rfl, by decide, in_X15, tyX15_ok, Or.inl q616⟩
theorem fk15_20_1 : FLk "InsuredFlame$Compared" 20 1 0 := ⟨_, _, _, rfl, by decide, in_X2, tyX2_ok, Or.inr ⟨_, nst q166 rfl⟩⟩
theorem lk15_26_7 : LkU "InsuredFlame$Compared" 26 "InsuredFlame$Row" "InsuredFlame$Sum" ⟨"InsuredFlame$Sum", "worth", "(LInsuredFlame$Asked;)I"⟩ yX9_worth cX9_worth 4 (some .int) 1 := ⟨q921, q923, q936, q937, q129, q938, Or.inl (nst q922 rfl), by decide +kernel⟩
theorem lk15_26_8 : LkU "InsuredFlame$Compared" 26 "InsuredFlame$Number" "InsuredFlame$Sum" ⟨"InsuredFlame$Sum", "worth", "(LInsuredFlame$Asked;)I"⟩ yX10_worth cX10_worth 2 (some .int) 1 := ⟨q921, q923, q933, q934, q130, q935, Or.inl (nst q922 rfl), by decide +kernel⟩
theorem lk15_26_9 : LkU "InsuredFlame$Compared" 26 "InsuredFlame$Letter" "InsuredFlame$Sum" ⟨"InsuredFlame$Sum", "worth", "(LInsuredFlame$Asked;)I"⟩ yX11_worth cX11_worth 2 (some .int) 1 := ⟨q921, q923, q924, q925, q131, q926, Or.inl (nst q922 rfl), by decide +kernel⟩
theorem fk5_27_4 : FLk "InsuredFlame$Text" 27 4 3 := ⟨_, _, _, rfl, by decide, in_X5, tyX5_ok, Or.inl q285⟩
theorem fk5_9_4 : FLk "InsuredFlame$Text" 9 4 0 := ⟨_, _, _, rfl, by decide, in_X5, tyX5_ok, Or.inl q279⟩
theorem fk5_23_4 : FLk "InsuredFlame$Text" 23 4 2 := ⟨_, _, _, rfl, by decide, in_X5, tyX5_ok, Or.inl q283⟩
theorem fk5_17_4 : FLk "InsuredFlame$Text" 17 4 1 := ⟨_, _, _, rfl, by decide, in_X5, tyX5_ok, Or.inl q281⟩
theorem lk5_35_7 : LkU "InsuredFlame$Text" 35 "InsuredFlame$Row" "InsuredFlame$Sum" ⟨"InsuredFlame$Sum", "told", "(LInsuredFlame$Asked;)I"⟩ yX8_told cX8_told 3 (some .int) 1 := ⟨q951, q953, q956, q952, q128, q957, Or.inr rfl, by decide +kernel⟩
theorem lk5_31_10 : LkU "InsuredFlame$Text" 31 "InsuredFlame$Some" "InsuredFlame$Condition" ⟨"InsuredFlame$Condition", "holds", "(LInsuredFlame$Asked;)I"⟩ yX13_holds cX13_holds 4 (some .int) 1 := ⟨q915, q917, q950, q947, q133, q948, Or.inl (nst q916 rfl), by decide +kernel⟩
theorem lk5_31_11 : LkU "InsuredFlame$Text" 31 "InsuredFlame$Not" "InsuredFlame$Condition" ⟨"InsuredFlame$Condition", "holds", "(LInsuredFlame$Asked;)I"⟩ yX14_holds cX14_holds 3 (some .int) 1 := ⟨q915, q917, q943, q944, q134, q945, Or.inl (nst q916 rfl), by decide +kernel⟩
theorem lk5_31_12 : LkU "InsuredFlame$Text" 31 "InsuredFlame$Compared" "InsuredFlame$Condition" ⟨"InsuredFlame$Condition", "holds", "(LInsuredFlame$Asked;)I"⟩ yX15_holds cX15_holds 5 (some .int) 1 := ⟨q915, q917, q918, q919, q135, q920, Or.inl (nst q916 rfl), by decide +kernel⟩
def w8_told (E : eT) (Q : Int32 → vT → Prop) (pc : Nat) (ls : List (Option aV)) (st : List aV) (V : vT) : Prop := wp E.1 E.2.1 (rmQ 41 0 0) "InsuredFlame$Sum" "told" cX8_told 3 (some .int) (Zm E.2.1 0 0 (QI E.2.2.1 E.2.2.2.1 E.2.2.2.2 Q)) pc ls st E.2.2.1 E.2.2.2.1 E.2.2.2.2 V 0 0
def c8_told (E : eT) (o : Nat)  (V : vT) (Q : Int32 → vT → Prop) : Prop := MOk E.1 E.2.1 41 yX8_told cX8_told 3 (some .int) [vr o, vr 18] E.2.2.1 E.2.2.2.1 E.2.2.2.2 V 0 0 (QI E.2.2.1 E.2.2.2.1 E.2.2.2.2 Q)
def w9_worked (E : eT) (Q : Int32 → vT → Prop) (pc : Nat) (ls : List (Option aV)) (st : List aV) (V : vT) : Prop := wp E.1 E.2.1 (rmQ 0 0 0) "InsuredFlame$Row" "worked" cX9_worked 4 (some .int) (Zm E.2.1 0 0 (QI E.2.2.1 E.2.2.2.1 E.2.2.2.2 Q)) pc ls st E.2.2.1 E.2.2.2.1 E.2.2.2.2 V 0 0
def c9_worked (E : eT) (x1 : Int32) (x2 : Int32) (x3 : Int32) (V : vT) (Q : Int32 → vT → Prop) : Prop := MOk E.1 E.2.1 0 yX9_worked cX9_worked 4 (some .int) [vi x1, vi x2, vi x3, vr 18] E.2.2.1 E.2.2.2.1 E.2.2.2.2 V 0 0 (QI E.2.2.1 E.2.2.2.1 E.2.2.2.2 Q)
def w9_worth (E : eT) (d : Nat) (Q : Int32 → vT → Prop) (pc : Nat) (ls : List (Option aV)) (st : List aV) (V : vT) : Prop := wp E.1 E.2.1 (rmQ (d + 1) 0 0) "InsuredFlame$Row" "worth" cX9_worth 4 (some .int) (Zm E.2.1 0 0 (QI E.2.2.1 E.2.2.2.1 E.2.2.2.2 Q)) pc ls st E.2.2.1 E.2.2.2.1 E.2.2.2.2 V 0 0
def w10_worth (E : eT) (d : Nat) (Q : Int32 → vT → Prop) (pc : Nat) (ls : List (Option aV)) (st : List aV) (V : vT) : Prop := wp E.1 E.2.1 (rmQ (d + 1) 0 0) "InsuredFlame$Number" "worth" cX10_worth 2 (some .int) (Zm E.2.1 0 0 (QI E.2.2.1 E.2.2.2.1 E.2.2.2.2 Q)) pc ls st E.2.2.1 E.2.2.2.1 E.2.2.2.2 V 0 0
def w11_worth (E : eT) (d : Nat) (Q : Int32 → vT → Prop) (pc : Nat) (ls : List (Option aV)) (st : List aV) (V : vT) : Prop := wp E.1 E.2.1 (rmQ (d + 1) 0 0) "InsuredFlame$Letter" "worth" cX11_worth 2 (some .int) (Zm E.2.1 0 0 (QI E.2.2.1 E.2.2.2.1 E.2.2.2.2 Q)) pc ls st E.2.2.1 E.2.2.2.1 E.2.2.2.2 V 0 0
def w13_holds (E : eT) (d : Nat) (Q : Int32 → vT → Prop) (pc : Nat) (ls : List (Option aV)) (st : List aV) (V : vT) : Prop := wp E.1 E.2.1 (rmQ (d + 1) 0 0) "InsuredFlame$Some" "holds" cX13_holds 4 (some .int) (Zm E.2.1 0 0 (QI E.2.2.1 E.2.2.2.1 E.2.2.2.2 Q)) pc ls st E.2.2.1 E.2.2.2.1 E.2.2.2.2 V 0 0
def w14_holds (E : eT) (d : Nat) (Q : Int32 → vT → Prop) (pc : Nat) (ls : List (Option aV)) (st : List aV) (V : vT) : Prop := wp E.1 E.2.1 (rmQ (d + 1) 0 0) "InsuredFlame$Not" "holds" cX14_holds 3 (some .int) (Zm E.2.1 0 0 (QI E.2.2.1 E.2.2.2.1 E.2.2.2.2 Q)) pc ls st E.2.2.1 E.2.2.2.1 E.2.2.2.2 V 0 0
def w15_holds (E : eT) (d : Nat) (Q : Int32 → vT → Prop) (pc : Nat) (ls : List (Option aV)) (st : List aV) (V : vT) : Prop := wp E.1 E.2.1 (rmQ (d + 1) 0 0) "InsuredFlame$Compared" "holds" cX15_holds 5 (some .int) (Zm E.2.1 0 0 (QI E.2.2.1 E.2.2.2.1 E.2.2.2.2 Q)) pc ls st E.2.2.1 E.2.2.2.1 E.2.2.2.2 V 0 0
/-- the call of worth on an object of whichever class, asked of the moment -/
def cWorth (E : eT) (d a : Nat) (V : vT) (Q : Int32 → vT → Prop) : Prop := (16 ≤ a ∧ a < E.2.2.1) ∧ ((E.2.2.2.1 a = .inl 7 ∧ MOk E.1 E.2.1 d yX9_worth cX9_worth 4 (some .int) [vr a, vr 18] E.2.2.1 E.2.2.2.1 E.2.2.2.2 V 0 0 (QI E.2.2.1 E.2.2.2.1 E.2.2.2.2 Q)) ∨ (E.2.2.2.1 a = .inl 8 ∧ MOk E.1 E.2.1 d yX10_worth cX10_worth 2 (some .int) [vr a, vr 18] E.2.2.1 E.2.2.2.1 E.2.2.2.2 V 0 0 (QI E.2.2.1 E.2.2.2.1 E.2.2.2.2 Q)) ∨ (E.2.2.2.1 a = .inl 9 ∧ MOk E.1 E.2.1 d yX11_worth cX11_worth 2 (some .int) [vr a, vr 18] E.2.2.1 E.2.2.2.1 E.2.2.2.2 V 0 0 (QI E.2.2.1 E.2.2.2.1 E.2.2.2.2 Q)))
theorem wq_worth {E : eT} {d D a ix : Nat} {own nm : String} {code : ByteArray} {maxL : Nat} {ret : Option FieldType} {Z : List Frame → Array Value → State → State → Prop} {pc : Nat} {ls : List (Option aV)} {st : List aV} {V : vT} {Q : Int32 → vT → Prop} (l0 : LkU own ix "InsuredFlame$Row" "InsuredFlame$Sum" ⟨"InsuredFlame$Sum", "worth", "(LInsuredFlame$Asked;)I"⟩ yX9_worth cX9_worth 4 (some .int) 1) (l1 : LkU own ix "InsuredFlame$Number" "InsuredFlame$Sum" ⟨"InsuredFlame$Sum", "worth", "(LInsuredFlame$Asked;)I"⟩ yX10_worth cX10_worth 2 (some .int) 1) (l2 : LkU own ix "InsuredFlame$Letter" "InsuredFlame$Sum" ⟨"InsuredFlame$Sum", "worth", "(LInsuredFlame$Asked;)I"⟩ yX11_worth cX11_worth 2 (some .int) 1) (hdg : decode code pc = .ok (.invokevirtual ix, 3)) (hw : cWorth E d a V Q) (hd : d < D) (hroom : 0 + 0 ≤ (rmQ D 0 0).cells ∧ 0 + 0 ≤ (rmQ D 0 0).slots) (hrest : st.length ≤ 8)
    (kk : ∀ (x9 : Int32) (V' : vT), Q x9 V' → wp E.1 E.2.1 (rmQ D 0 0) own nm code maxL ret Z (pc + 3) ls (.inl x9 :: st) E.2.2.1 E.2.2.2.1 E.2.2.2.2 V' 0 0) : wp E.1 E.2.1 (rmQ D 0 0) own nm code maxL ret Z pc ls (.inr (some 18) :: .inr (some a) :: st) E.2.2.1 E.2.2.2.1 E.2.2.2.2 V 0 0 := by
  obtain ⟨hb, h⟩ := hw
  rcases h with ⟨hk, h⟩ | ⟨hk, h⟩ | ⟨hk, h⟩
  · exact wq_UI1 l0 rfl hb hk hdg h (rmQ_ok hd (by decide)) hroom hrest kk
  · exact wq_UI1 l1 rfl hb hk hdg h (rmQ_ok hd (by decide)) hroom hrest kk
  · exact wq_UI1 l2 rfl hb hk hdg h (rmQ_ok hd (by decide)) hroom hrest kk
theorem n9_worth {E : eT} {d o : Nat} {V : vT} {Q : Int32 → vT → Prop} (hb : 16 ≤ o ∧ o < E.2.2.1) (hk : E.2.2.2.1 o = .inl 7) (h : w9_worth E d Q 0 [some (vr o), some (vr 18), none, none] [] V) : cWorth E (d + 1) o V Q := ⟨hb, Or.inl ⟨hk, (MOk.enter [some (vr o), some (vr 18), none, none] pn_X9 rfl rfl (Nat.le_of_ble_eq_true rfl) rfl h)⟩⟩
theorem n10_worth {E : eT} {d o : Nat} {V : vT} {Q : Int32 → vT → Prop} (hb : 16 ≤ o ∧ o < E.2.2.1) (hk : E.2.2.2.1 o = .inl 8) (h : w10_worth E d Q 0 [some (vr o), some (vr 18)] [] V) : cWorth E (d + 1) o V Q := ⟨hb, Or.inr (Or.inl ⟨hk, (MOk.enter [some (vr o), some (vr 18)] pn_X10 rfl rfl (Nat.le_of_ble_eq_true rfl) rfl h)⟩)⟩
theorem n11_worth {E : eT} {d o : Nat} {V : vT} {Q : Int32 → vT → Prop} (hb : 16 ≤ o ∧ o < E.2.2.1) (hk : E.2.2.2.1 o = .inl 9) (h : w11_worth E d Q 0 [some (vr o), some (vr 18)] [] V) : cWorth E (d + 1) o V Q := ⟨hb, Or.inr (Or.inr ⟨hk, (MOk.enter [some (vr o), some (vr 18)] pn_X11 rfl rfl (Nat.le_of_ble_eq_true rfl) rfl h)⟩)⟩
/-- the call of holds on an object of whichever class, asked of the moment -/
def cHolds (E : eT) (d a : Nat) (V : vT) (Q : Int32 → vT → Prop) : Prop := (16 ≤ a ∧ a < E.2.2.1) ∧ ((E.2.2.2.1 a = .inl 10 ∧ MOk E.1 E.2.1 d yX13_holds cX13_holds 4 (some .int) [vr a, vr 18] E.2.2.1 E.2.2.2.1 E.2.2.2.2 V 0 0 (QI E.2.2.1 E.2.2.2.1 E.2.2.2.2 Q)) ∨ (E.2.2.2.1 a = .inl 11 ∧ MOk E.1 E.2.1 d yX14_holds cX14_holds 3 (some .int) [vr a, vr 18] E.2.2.1 E.2.2.2.1 E.2.2.2.2 V 0 0 (QI E.2.2.1 E.2.2.2.1 E.2.2.2.2 Q)) ∨ (E.2.2.2.1 a = .inl 12 ∧ MOk E.1 E.2.1 d yX15_holds cX15_holds 5 (some .int) [vr a, vr 18] E.2.2.1 E.2.2.2.1 E.2.2.2.2 V 0 0 (QI E.2.2.1 E.2.2.2.1 E.2.2.2.2 Q)))
theorem wq_holds {E : eT} {d D a ix : Nat} {own nm : String} {code : ByteArray} {maxL : Nat} {ret : Option FieldType} {Z : List Frame → Array Value → State → State → Prop} {pc : Nat} {ls : List (Option aV)} {st : List aV} {V : vT} {Q : Int32 → vT → Prop} (l0 : LkU own ix "InsuredFlame$Some" "InsuredFlame$Condition" ⟨"InsuredFlame$Condition", "holds", "(LInsuredFlame$Asked;)I"⟩ yX13_holds cX13_holds 4 (some .int) 1) (l1 : LkU own ix "InsuredFlame$Not" "InsuredFlame$Condition" ⟨"InsuredFlame$Condition", "holds", "(LInsuredFlame$Asked;)I"⟩ yX14_holds cX14_holds 3 (some .int) 1) (l2 : LkU own ix "InsuredFlame$Compared" "InsuredFlame$Condition" ⟨"InsuredFlame$Condition", "holds", "(LInsuredFlame$Asked;)I"⟩ yX15_holds cX15_holds 5 (some .int) 1) (hdg : decode code pc = .ok (.invokevirtual ix, 3)) (hw : cHolds E d a V Q) (hd : d < D) (hroom : 0 + 0 ≤ (rmQ D 0 0).cells ∧ 0 + 0 ≤ (rmQ D 0 0).slots) (hrest : st.length ≤ 8)
    (kk : ∀ (x9 : Int32) (V' : vT), Q x9 V' → wp E.1 E.2.1 (rmQ D 0 0) own nm code maxL ret Z (pc + 3) ls (.inl x9 :: st) E.2.2.1 E.2.2.2.1 E.2.2.2.2 V' 0 0) : wp E.1 E.2.1 (rmQ D 0 0) own nm code maxL ret Z pc ls (.inr (some 18) :: .inr (some a) :: st) E.2.2.1 E.2.2.2.1 E.2.2.2.2 V 0 0 := by
  obtain ⟨hb, h⟩ := hw
  rcases h with ⟨hk, h⟩ | ⟨hk, h⟩ | ⟨hk, h⟩
  · exact wq_UI1 l0 rfl hb hk hdg h (rmQ_ok hd (by decide)) hroom hrest kk
  · exact wq_UI1 l1 rfl hb hk hdg h (rmQ_ok hd (by decide)) hroom hrest kk
  · exact wq_UI1 l2 rfl hb hk hdg h (rmQ_ok hd (by decide)) hroom hrest kk
theorem n13_holds {E : eT} {d o : Nat} {V : vT} {Q : Int32 → vT → Prop} (hb : 16 ≤ o ∧ o < E.2.2.1) (hk : E.2.2.2.1 o = .inl 10) (h : w13_holds E d Q 0 [some (vr o), some (vr 18), none, none] [] V) : cHolds E (d + 1) o V Q := ⟨hb, Or.inl ⟨hk, (MOk.enter [some (vr o), some (vr 18), none, none] pn_X13 rfl rfl (Nat.le_of_ble_eq_true rfl) rfl h)⟩⟩
theorem n14_holds {E : eT} {d o : Nat} {V : vT} {Q : Int32 → vT → Prop} (hb : 16 ≤ o ∧ o < E.2.2.1) (hk : E.2.2.2.1 o = .inl 11) (h : w14_holds E d Q 0 [some (vr o), some (vr 18), none] [] V) : cHolds E (d + 1) o V Q := ⟨hb, Or.inr (Or.inl ⟨hk, (MOk.enter [some (vr o), some (vr 18), none] pn_X14 rfl rfl (Nat.le_of_ble_eq_true rfl) rfl h)⟩)⟩
theorem n15_holds {E : eT} {d o : Nat} {V : vT} {Q : Int32 → vT → Prop} (hb : 16 ≤ o ∧ o < E.2.2.1) (hk : E.2.2.2.1 o = .inl 12) (h : w15_holds E d Q 0 [some (vr o), some (vr 18), none, none, none] [] V) : cHolds E (d + 1) o V Q := ⟨hb, Or.inr (Or.inr ⟨hk, (MOk.enter [some (vr o), some (vr 18), none, none, none] pn_X15 rfl rfl (Nat.le_of_ble_eq_true rfl) rfl h)⟩)⟩
theorem b8_told_0 {E : eT} {Q : Int32 → vT → Prop} {V : vT} {tl : Nat} {o : Nat} (hC : CM E tl) (h : cWorth E 40 o (up2 V 18 0 0) (fun r7 V7 => ((V7 18 0) = 0 → Q r7 V7) ∧ (¬ (V7 18 0) = 0 → Q 0 V7))) : w8_told E Q 0 [some (vr o), some (vr 18), none] [] V := by
  refine wp_aload_n dX8_told_0 rfl ?_
  refine wp_iconst (v := 0) dX8_told_1 rfl ?_
  refine wp_putz dX8_told_2 fp8_7_1 (cb_18 hC) (ck_18 hC) rfl (by decide) ?_
  refine wp_aload_n dX8_told_5 rfl ?_
  refine wp_aload_n dX8_told_6 rfl ?_
  refine wq_worth lk8_13_7 lk8_13_8 lk8_13_9 dX8_told_7 h (by decide) ⟨Nat.le_refl _, Nat.le_refl _⟩ (Nat.le_of_ble_eq_true rfl) (fun r7 V7 h => ?_)
  refine wi3_2 dX8_told_10 ?_
  refine wp_aload_n dX8_told_11 rfl ?_
  refine wp_geti dX8_told_12 fk8_7_1 (cb_18 hC) (ck_18 hC) rfl ?_
  refine wp_if_eq 22 dX8_told_15 (by decide) (fun hc => ?_) (fun hc => ?_)
  · replace h := h.1 hc
    refine wp_iload_n dX8_told_22 rfl ?_
    exact wp_iret dX8_told_23 rfl ⟨_, rfl, rfl, rfl, rfl, h⟩
  · replace h := h.2 hc
    refine wp_iconst (v := 0) dX8_told_18 rfl ?_
    refine wp_goto 23 dX8_told_19 (by decide) ?_
    exact wp_iret dX8_told_23 rfl ⟨_, rfl, rfl, rfl, rfl, h⟩
theorem n8_told {E : eT} {Q : Int32 → vT → Prop} {V : vT} {o : Nat} (h : w8_told E Q 0 [some (vr o), some (vr 18), none] [] V) : c8_told E o V Q := MOk.enter [some (vr o), some (vr 18), none] pn_X8 rfl rfl (Nat.le_of_ble_eq_true rfl) rfl h
theorem b9_worked_0 {E : eT} {Q : Int32 → vT → Prop} {V : vT} {tl : Nat} {x1 x2 x3 : Int32} (hC : CM E tl) (h : (x1 = 42 → Q (x2 * x3) V) ∧ (x1 = 43 → Q (x2 + x3) V) ∧ (x1 = 45 → Q (x2 - x3) V) ∧ (¬ x1 = 42 → ¬ x1 = 43 → ¬ x1 = 45 → (¬ x3 = 0 → (¬ x3 = 0 → (¬ x1 = 47 → ¬ x3 = 0 ∧ (Q (rmd x2 x3) V)) ∧ (x1 = 47 → ¬ x3 = 0 ∧ (Q (x2 / x3) V))) ∧ (x3 = 0 → Q 0 V)) ∧ (x3 = 0 → (¬ x3 = 0 → (¬ x1 = 47 → ¬ x3 = 0 ∧ (Q (rmd x2 x3) (up2 V 18 0 1))) ∧ (x1 = 47 → ¬ x3 = 0 ∧ (Q (x2 / x3) (up2 V 18 0 1)))) ∧ (x3 = 0 → Q 0 (up2 V 18 0 1))))) : w9_worked E Q 0 [some (vi x1), some (vi x2), some (vi x3), some (vr 18)] [] V := by
  refine wp_iload_n dX9_worked_0 rfl ?_
  by_cases hc42 : x1 = 42
  · replace h := h.1 hc42
    rw [hc42]
    refine wp_tableIn 40 dX9_worked_1 (by decide) (by decide) rfl (by decide) ?_
    refine wp_iload_n dX9_worked_40 rfl ?_
    refine wp_iload_n dX9_worked_41 rfl ?_
    refine wp_imul dX9_worked_42 ?_
    exact wp_iret dX9_worked_43 rfl ⟨_, rfl, rfl, rfl, rfl, h⟩
  · skip
    by_cases hc43 : x1 = 43
    · replace h := h.2.1 hc43
      rw [hc43]
      refine wp_tableIn 32 dX9_worked_1 (by decide) (by decide) rfl (by decide) ?_
      refine wp_iload_n dX9_worked_32 rfl ?_
      refine wp_iload_n dX9_worked_33 rfl ?_
      refine wp_iadd dX9_worked_34 ?_
      exact wp_iret dX9_worked_35 rfl ⟨_, rfl, rfl, rfl, rfl, h⟩
    · skip
      by_cases hc45 : x1 = 45
      · replace h := h.2.2.1 hc45
        rw [hc45]
        refine wp_tableIn 36 dX9_worked_1 (by decide) (by decide) rfl (by decide) ?_
        refine wp_iload_n dX9_worked_36 rfl ?_
        refine wp_iload_n dX9_worked_37 rfl ?_
        refine wp_isub dX9_worked_38 ?_
        exact wp_iret dX9_worked_39 rfl ⟨_, rfl, rfl, rfl, rfl, h⟩
      · skip
        replace h := h.2.2.2 hc42 hc43 hc45
        refine wp_tableD 44 dX9_worked_1 (fun j9 h8 h9 => ?_) (by decide) ?_
        · rcases (show j9 = 0 ∨ j9 = 1 ∨ j9 = 2 ∨ j9 = 3 by omega) with rfl | rfl | rfl | rfl
          · exact absurd h9 (tab_ne hc42 (by decide))
          · exact absurd h9 (tab_ne hc43 (by decide))
          · exact rfl
          · exact absurd h9 (tab_ne hc45 (by decide))
        refine wp_iload_n dX9_worked_44 rfl ?_
        refine wp_if_ne 53 dX9_worked_45 (by decide) (fun hc => ?_) (fun hc => ?_)
        · replace h := h.1 hc
          refine wp_iload_n dX9_worked_53 rfl ?_
          refine wp_if_ne 61 dX9_worked_54 (by decide) (fun hc => ?_) (fun hc => ?_)
          · replace h := h.1 hc
            refine wp_iload_n dX9_worked_61 rfl ?_
            refine wp_bipush (v := 47) dX9_worked_62 rfl ?_
            refine wp_icmp_ne 73 dX9_worked_64 (by decide) (fun hc => ?_) (fun hc => ?_)
            · replace h := h.1 hc
              refine wp_iload_n dX9_worked_73 rfl ?_
              refine wp_iload_n dX9_worked_74 rfl ?_
              refine wp_irm dX9_worked_75 h.1 ?_
              replace h := h.2
              exact wp_iret dX9_worked_76 rfl ⟨_, rfl, rfl, rfl, rfl, h⟩
            · replace h := h.2 hc
              refine wp_iload_n dX9_worked_67 rfl ?_
              refine wp_iload_n dX9_worked_68 rfl ?_
              refine wp_idiv dX9_worked_69 h.1 ?_
              replace h := h.2
              refine wp_goto 76 dX9_worked_70 (by decide) ?_
              exact wp_iret dX9_worked_76 rfl ⟨_, rfl, rfl, rfl, rfl, h⟩
          · replace h := h.2 hc
            refine wp_iconst (v := 0) dX9_worked_57 rfl ?_
            refine wp_goto 76 dX9_worked_58 (by decide) ?_
            exact wp_iret dX9_worked_76 rfl ⟨_, rfl, rfl, rfl, rfl, h⟩
        · replace h := h.2 hc
          refine wp_aload_n dX9_worked_48 rfl ?_
          refine wp_iconst (v := 1) dX9_worked_49 rfl ?_
          refine wp_putz dX9_worked_50 fp9_17_1 (cb_18 hC) (ck_18 hC) rfl (by decide) ?_
          refine wp_iload_n dX9_worked_53 rfl ?_
          refine wp_if_ne 61 dX9_worked_54 (by decide) (fun hc => ?_) (fun hc => ?_)
          · replace h := h.1 hc
            refine wp_iload_n dX9_worked_61 rfl ?_
            refine wp_bipush (v := 47) dX9_worked_62 rfl ?_
            refine wp_icmp_ne 73 dX9_worked_64 (by decide) (fun hc => ?_) (fun hc => ?_)
            · replace h := h.1 hc
              refine wp_iload_n dX9_worked_73 rfl ?_
              refine wp_iload_n dX9_worked_74 rfl ?_
              refine wp_irm dX9_worked_75 h.1 ?_
              replace h := h.2
              exact wp_iret dX9_worked_76 rfl ⟨_, rfl, rfl, rfl, rfl, h⟩
            · replace h := h.2 hc
              refine wp_iload_n dX9_worked_67 rfl ?_
              refine wp_iload_n dX9_worked_68 rfl ?_
              refine wp_idiv dX9_worked_69 h.1 ?_
              replace h := h.2
              refine wp_goto 76 dX9_worked_70 (by decide) ?_
              exact wp_iret dX9_worked_76 rfl ⟨_, rfl, rfl, rfl, rfl, h⟩
          · replace h := h.2 hc
            refine wp_iconst (v := 0) dX9_worked_57 rfl ?_
            refine wp_goto 76 dX9_worked_58 (by decide) ?_
            exact wp_iret dX9_worked_76 rfl ⟨_, rfl, rfl, rfl, rfl, h⟩
theorem n9_worked {E : eT} {Q : Int32 → vT → Prop} {V : vT} {x1 x2 x3 : Int32} (h : w9_worked E Q 0 [some (vi x1), some (vi x2), some (vi x3), some (vr 18)] [] V) : c9_worked E x1 x2 x3 V Q := MOk.enter [some (vi x1), some (vi x2), some (vi x3), some (vr 18)] pn_X9 rfl rfl (Nat.le_of_ble_eq_true rfl) rfl h
theorem b9_worth_0 {E : eT} {Q : Int32 → vT → Prop} {V : vT} {tl : Nat} {d : Nat} {o : Nat} (hC : CM E tl) (hb : 16 ≤ o ∧ o < E.2.2.1) (hk : E.2.2.2.1 o = .inl 7) (h : ∃ a5, E.2.2.2.2 o 1 = some a5 ∧ cWorth E d a5 V (fun r5 V5 => w9_worth E d Q 14 [none, some (vr 18), some (vi r5), some (.inr (E.2.2.2.2 o 2))] [] V5)) : w9_worth E d Q 0 [some (vr o), some (vr 18), none, none] [] V := by
  refine wp_aload_n dX9_worth_0 rfl ?_
  refine wp_getr dX9_worth_1 fk9_13_7 hb hk rfl ?_
  refine wp_aload_n dX9_worth_4 rfl ?_
  obtain ⟨a5, hqa5, h⟩ := h
  rw [hqa5]
  refine wq_worth lk9_23_7 lk9_23_8 lk9_23_9 dX9_worth_5 h (Nat.lt_succ_self _) ⟨Nat.le_refl _, Nat.le_refl _⟩ (Nat.le_of_ble_eq_true rfl) (fun r5 V5 h => ?_)
  refine wi4_2 dX9_worth_8 ?_
  refine wp_aload_n dX9_worth_9 rfl ?_
  refine wp_getr dX9_worth_10 fk9_27_7 hb hk rfl ?_
  refine wa4_3 dX9_worth_13 ?_
  exact wp_drop [none, some (vr 18), some (vi r5), some (.inr (E.2.2.2.2 o 2))] ⟨rfl, ⟨rfl, ⟨rfl, trivial⟩⟩⟩ h
theorem b9_worth_14 {E : eT} {Q : Int32 → vT → Prop} {V : vT} {tl : Nat} {d : Nat} {o : Nat} {x2 : Int32} {q3 : Option Nat} (hC : CM E tl) (hb : 16 ≤ o ∧ o < E.2.2.1) (hk : E.2.2.2.1 o = .inl 7) (h : (q3 = none → Q x2 V) ∧ (∀ a15, q3 = some a15 → ((16 ≤ a15 ∧ a15 < E.2.2.1) ∧ E.2.2.2.1 a15 = .inl 7) ∧ (∃ a28, E.2.2.2.2 a15 1 = some a28 ∧ cWorth E d a28 V (fun r28 V28 => c9_worked E (V a15 0) x2 r28 V28 (fun r32 V32 => w9_worth E d Q 14 [none, some (vr 18), some (vi r32), some (.inr (E.2.2.2.2 a15 2))] [] V32))))) : w9_worth E d Q 14 [none, some (vr 18), some (vi x2), some (.inr q3)] [] V := by
  refine wp_aload_n dX9_worth_14 rfl ?_
  refine wp_ifnull 44 dX9_worth_15 (by decide) (fun hc => ?_) (fun a15 hca15 => ?_)
  · replace h := h.1 hc
    refine wp_iload_n dX9_worth_44 rfl ?_
    exact wp_iret dX9_worth_45 rfl ⟨_, rfl, rfl, rfl, rfl, h⟩
  · replace h := h.2 a15 hca15
    rw [hca15]
    refine wp_aload_n dX9_worth_18 rfl ?_
    obtain ⟨⟨hba15, hka15⟩, h⟩ := h
    refine wp_geti dX9_worth_19 fk9_7_7 hba15 hka15 rfl ?_
    refine wp_iload_n dX9_worth_22 rfl ?_
    refine wp_aload_n dX9_worth_23 rfl ?_
    refine wp_getr dX9_worth_24 fk9_13_7 hba15 hka15 rfl ?_
    refine wp_aload_n dX9_worth_27 rfl ?_
    obtain ⟨a28, hqa28, h⟩ := h
    rw [hqa28]
    refine wq_worth lk9_23_7 lk9_23_8 lk9_23_9 dX9_worth_28 h (Nat.lt_succ_self _) ⟨Nat.le_refl _, Nat.le_refl _⟩ (Nat.le_of_ble_eq_true rfl) (fun r28 V28 h => ?_)
    refine wp_aload_n dX9_worth_31 rfl ?_
    refine wq_SI4 lk9_31 dX9_worth_32 h (rmQ_ok (Nat.succ_pos _) (by decide)) ⟨Nat.le_refl _, Nat.le_refl _⟩ (Nat.le_of_ble_eq_true rfl) (fun r32 V32 h => ?_)
    refine wi4_2 dX9_worth_35 ?_
    refine wp_aload_n dX9_worth_36 rfl ?_
    refine wp_getr dX9_worth_37 fk9_27_7 hba15 hka15 rfl ?_
    refine wa4_3 dX9_worth_40 ?_
    refine wp_goto 14 dX9_worth_41 (by decide) ?_
    exact h
theorem b10_worth_0 {E : eT} {Q : Int32 → vT → Prop} {V : vT} {tl : Nat} {d : Nat} {o : Nat} (hC : CM E tl) (hb : 16 ≤ o ∧ o < E.2.2.1) (hk : E.2.2.2.1 o = .inl 8) (h : Q (V o 0) V) : w10_worth E d Q 0 [some (vr o), some (vr 18)] [] V := by
  refine wp_aload_n dX10_worth_0 rfl ?_
  refine wp_geti dX10_worth_1 fk10_7_8 hb hk rfl ?_
  exact wp_iret dX10_worth_4 rfl ⟨_, rfl, rfl, rfl, rfl, h⟩
theorem b11_worth_0 {E : eT} {Q : Int32 → vT → Prop} {V : vT} {tl : Nat} {d : Nat} {o : Nat} (hC : CM E tl) (hb : 16 ≤ o ∧ o < E.2.2.1) (hk : E.2.2.2.1 o = .inl 9) (h : c2_value E (V o 0) V (fun r5 V5 => Q r5 V5)) : w11_worth E d Q 0 [some (vr o), some (vr 18)] [] V := by
  refine wp_aload_n dX11_worth_0 rfl ?_
  refine wp_aload_n dX11_worth_1 rfl ?_
  refine wp_geti dX11_worth_2 fk11_7_9 hb hk rfl ?_
  refine wq_UI1 lk11_13_1 rfl (cb_18 hC) (ck_18 hC) dX11_worth_5 h (rmQ_ok (Nat.succ_pos _) (by decide)) ⟨Nat.le_refl _, Nat.le_refl _⟩ (Nat.le_of_ble_eq_true rfl) (fun r5 V5 h => ?_)
  exact wp_iret dX11_worth_8 rfl ⟨_, rfl, rfl, rfl, rfl, h⟩
theorem b13_holds_0 {E : eT} {Q : Int32 → vT → Prop} {V : vT} {tl : Nat} {d : Nat} {o : Nat} (hC : CM E tl) (hb : 16 ≤ o ∧ o < E.2.2.1) (hk : E.2.2.2.1 o = .inl 10) (h : w13_holds E d Q 2 [some (vr o), some (vr 18), some (vr o), none] [] V) : w13_holds E d Q 0 [some (vr o), some (vr 18), none, none] [] V := by
  refine wp_aload_n dX13_holds_0 rfl ?_
  refine wa4_2 dX13_holds_1 ?_
  exact h
theorem b13_holds_2 {E : eT} {Q : Int32 → vT → Prop} {V : vT} {tl : Nat} {d : Nat} {o : Nat} {q2 : Option Nat} (hC : CM E tl) (hb : 16 ≤ o ∧ o < E.2.2.1) (hk : E.2.2.2.1 o = .inl 10) (h : (q2 = none → Q (1 - (V o 1)) V) ∧ (∀ a3, q2 = some a3 → ((16 ≤ a3 ∧ a3 < E.2.2.1) ∧ E.2.2.2.1 a3 = .inl 10) ∧ (∃ a11, E.2.2.2.2 a3 0 = some a11 ∧ cHolds E d a11 V (fun r11 V11 => (r11 = 2 → Q r11 V11) ∧ (¬ r11 = 2 → (¬ r11 = (V11 o 1) → w13_holds E d Q 2 [some (vr o), some (vr 18), some (.inr (E.2.2.2.2 a3 2)), none] [] V11) ∧ (r11 = (V11 o 1) → Q r11 V11)))))) : w13_holds E d Q 2 [some (vr o), some (vr 18), some (.inr q2), none] [] V := by
  refine wp_aload_n dX13_holds_2 rfl ?_
  refine wp_ifnull 38 dX13_holds_3 (by decide) (fun hc => ?_) (fun a3 hca3 => ?_)
  · replace h := h.1 hc
    refine wp_iconst (v := 1) dX13_holds_38 rfl ?_
    refine wp_aload_n dX13_holds_39 rfl ?_
    refine wp_geti dX13_holds_40 fk13_13_10 hb hk rfl ?_
    refine wp_isub dX13_holds_43 ?_
    exact wp_iret dX13_holds_44 rfl ⟨_, rfl, rfl, rfl, rfl, h⟩
  · replace h := h.2 a3 hca3
    rw [hca3]
    refine wp_aload_n dX13_holds_6 rfl ?_
    obtain ⟨⟨hba3, hka3⟩, h⟩ := h
    refine wp_getr dX13_holds_7 fk13_7_10 hba3 hka3 rfl ?_
    refine wp_aload_n dX13_holds_10 rfl ?_
    obtain ⟨a11, hqa11, h⟩ := h
    rw [hqa11]
    refine wq_holds lk13_17_10 lk13_17_11 lk13_17_12 dX13_holds_11 h (Nat.lt_succ_self _) ⟨Nat.le_refl _, Nat.le_refl _⟩ (Nat.le_of_ble_eq_true rfl) (fun r11 V11 h => ?_)
    refine wi4_3 dX13_holds_14 ?_
    refine wp_iload_n dX13_holds_15 rfl ?_
    refine wp_iconst (v := 2) dX13_holds_16 rfl ?_
    refine wp_icmp_eq 28 dX13_holds_17 (by decide) (fun hc => ?_) (fun hc => ?_)
    · replace h := h.1 hc
      refine wp_iload_n dX13_holds_28 rfl ?_
      exact wp_iret dX13_holds_29 rfl ⟨_, rfl, rfl, rfl, rfl, h⟩
    · replace h := h.2 hc
      refine wp_iload_n dX13_holds_20 rfl ?_
      refine wp_aload_n dX13_holds_21 rfl ?_
      refine wp_geti dX13_holds_22 fk13_13_10 hb hk rfl ?_
      refine wp_icmp_ne 30 dX13_holds_25 (by decide) (fun hc => ?_) (fun hc => ?_)
      · replace h := h.1 hc
        refine wp_aload_n dX13_holds_30 rfl ?_
        refine wp_getr dX13_holds_31 fk13_21_10 hba3 hka3 rfl ?_
        refine wa4_2 dX13_holds_34 ?_
        refine wp_goto 2 dX13_holds_35 (by decide) ?_
        exact wp_drop [some (vr o), some (vr 18), some (.inr (E.2.2.2.2 a3 2)), none] ⟨rfl, ⟨rfl, ⟨rfl, trivial⟩⟩⟩ h
      · replace h := h.2 hc
        refine wp_iload_n dX13_holds_28 rfl ?_
        exact wp_iret dX13_holds_29 rfl ⟨_, rfl, rfl, rfl, rfl, h⟩
theorem b14_holds_0 {E : eT} {Q : Int32 → vT → Prop} {V : vT} {tl : Nat} {d : Nat} {o : Nat} (hC : CM E tl) (hb : 16 ≤ o ∧ o < E.2.2.1) (hk : E.2.2.2.1 o = .inl 11) (h : ∃ a5, E.2.2.2.2 o 0 = some a5 ∧ cHolds E d a5 V (fun r5 V5 => (¬ r5 = 2 → Q (1 - r5) V5) ∧ (r5 = 2 → Q 2 V5))) : w14_holds E d Q 0 [some (vr o), some (vr 18), none] [] V := by
  refine wp_aload_n dX14_holds_0 rfl ?_
  refine wp_getr dX14_holds_1 fk14_7_11 hb hk rfl ?_
  refine wp_aload_n dX14_holds_4 rfl ?_
  obtain ⟨a5, hqa5, h⟩ := h
  rw [hqa5]
  refine wq_holds lk14_13_10 lk14_13_11 lk14_13_12 dX14_holds_5 h (Nat.lt_succ_self _) ⟨Nat.le_refl _, Nat.le_refl _⟩ (Nat.le_of_ble_eq_true rfl) (fun r5 V5 h => ?_)
  refine wi3_2 dX14_holds_8 ?_
  refine wp_iload_n dX14_holds_9 rfl ?_
  refine wp_iconst (v := 2) dX14_holds_10 rfl ?_
  refine wp_icmp_ne 18 dX14_holds_11 (by decide) (fun hc => ?_) (fun hc => ?_)
  · replace h := h.1 hc
    refine wp_iconst (v := 1) dX14_holds_18 rfl ?_
    refine wp_iload_n dX14_holds_19 rfl ?_
    refine wp_isub dX14_holds_20 ?_
    exact wp_iret dX14_holds_21 rfl ⟨_, rfl, rfl, rfl, rfl, h⟩
  · replace h := h.2 hc
    refine wp_iconst (v := 2) dX14_holds_14 rfl ?_
    refine wp_goto 21 dX14_holds_15 (by decide) ?_
    exact wp_iret dX14_holds_21 rfl ⟨_, rfl, rfl, rfl, rfl, h⟩
theorem b15_holds_0 {E : eT} {Q : Int32 → vT → Prop} {V : vT} {tl : Nat} {d : Nat} {o : Nat} (hC : CM E tl) (hb : 16 ≤ o ∧ o < E.2.2.1) (hk : E.2.2.2.1 o = .inl 12) (h : ∃ a10, E.2.2.2.2 o 0 = some a10 ∧ cWorth E d a10 (up2 V 18 0 0) (fun r10 V10 => ∃ a19, E.2.2.2.2 o 1 = some a19 ∧ cWorth E d a19 V10 (fun r19 V19 => (¬ (V19 o 2) = 60 → (¬ (V19 o 2) = 62 → (¬ r10 = r19 → ((V19 18 0) = 0 → Q 0 V19) ∧ (¬ (V19 18 0) = 0 → Q 2 V19)) ∧ (r10 = r19 → ((V19 18 0) = 0 → Q 1 V19) ∧ (¬ (V19 18 0) = 0 → Q 2 V19))) ∧ ((V19 o 2) = 62 → (r10 ≤ r19 → ((V19 18 0) = 0 → Q 0 V19) ∧ (¬ (V19 18 0) = 0 → Q 2 V19)) ∧ (r19 < r10 → ((V19 18 0) = 0 → Q 1 V19) ∧ (¬ (V19 18 0) = 0 → Q 2 V19)))) ∧ ((V19 o 2) = 60 → (r19 ≤ r10 → ((V19 18 0) = 0 → Q 0 V19) ∧ (¬ (V19 18 0) = 0 → Q 2 V19)) ∧ (r10 < r19 → ((V19 18 0) = 0 → Q 1 V19) ∧ (¬ (V19 18 0) = 0 → Q 2 V19)))))) : w15_holds E d Q 0 [some (vr o), some (vr 18), none, none, none] [] V := by
  refine wp_aload_n dX15_holds_0 rfl ?_
  refine wp_iconst (v := 0) dX15_holds_1 rfl ?_
  refine wp_putz dX15_holds_2 fp15_20_1 (cb_18 hC) (ck_18 hC) rfl (by decide) ?_
  refine wp_aload_n dX15_holds_5 rfl ?_
  refine wp_getr dX15_holds_6 fk15_7_12 hb hk rfl ?_
  refine wp_aload_n dX15_holds_9 rfl ?_
  obtain ⟨a10, hqa10, h⟩ := h
  rw [hqa10]
  refine wq_worth lk15_26_7 lk15_26_8 lk15_26_9 dX15_holds_10 h (Nat.lt_succ_self _) ⟨Nat.le_refl _, Nat.le_refl _⟩ (Nat.le_of_ble_eq_true rfl) (fun r10 V10 h => ?_)
  refine wi5_2 dX15_holds_13 ?_
  refine wp_aload_n dX15_holds_14 rfl ?_
  refine wp_getr dX15_holds_15 fk15_17_12 hb hk rfl ?_
  refine wp_aload_n dX15_holds_18 rfl ?_
  obtain ⟨a19, hqa19, h⟩ := h
  rw [hqa19]
  refine wq_worth lk15_26_7 lk15_26_8 lk15_26_9 dX15_holds_19 h (Nat.lt_succ_self _) ⟨Nat.le_refl _, Nat.le_refl _⟩ (Nat.le_of_ble_eq_true rfl) (fun r19 V19 h => ?_)
  refine wi5_3 dX15_holds_22 ?_
  refine wp_aload_n dX15_holds_23 rfl ?_
  refine wp_geti dX15_holds_24 fk15_13_12 hb hk rfl ?_
  refine wp_bipush (v := 60) dX15_holds_27 rfl ?_
  refine wp_icmp_ne 45 dX15_holds_29 (by decide) (fun hc => ?_) (fun hc => ?_)
  · replace h := h.1 hc
    refine wp_aload_n dX15_holds_45 rfl ?_
    refine wp_geti dX15_holds_46 fk15_13_12 hb hk rfl ?_
    refine wp_bipush (v := 62) dX15_holds_49 rfl ?_
    refine wp_icmp_ne 67 dX15_holds_51 (by decide) (fun hc => ?_) (fun hc => ?_)
    · replace h := h.1 hc
      refine wp_iload_n dX15_holds_67 rfl ?_
      refine wp_iload_n dX15_holds_68 rfl ?_
      refine wp_icmp_ne 76 dX15_holds_69 (by decide) (fun hc => ?_) (fun hc => ?_)
      · replace h := h.1 hc
        refine wp_iconst (v := 0) dX15_holds_76 rfl ?_
        refine wi5_4 dX15_holds_77 ?_
        refine wp_aload_n dX15_holds_79 rfl ?_
        refine wp_geti dX15_holds_80 fk15_20_1 (cb_18 hC) (ck_18 hC) rfl ?_
        refine wp_if_eq 90 dX15_holds_83 (by decide) (fun hc => ?_) (fun hc => ?_)
        · replace h := h.1 hc
          refine wp_iload dX15_holds_90 rfl ?_
          refine wp_if_eq 99 dX15_holds_92 (by decide) (fun _ => ?_) (fun hc => absurd hc (by decide))
          refine wp_iconst (v := 0) dX15_holds_99 rfl ?_
          exact wp_iret dX15_holds_100 rfl ⟨_, rfl, rfl, rfl, rfl, h⟩
        · replace h := h.2 hc
          refine wp_iconst (v := 2) dX15_holds_86 rfl ?_
          refine wp_goto 100 dX15_holds_87 (by decide) ?_
          exact wp_iret dX15_holds_100 rfl ⟨_, rfl, rfl, rfl, rfl, h⟩
      · replace h := h.2 hc
        refine wp_iconst (v := 1) dX15_holds_72 rfl ?_
        refine wp_goto 77 dX15_holds_73 (by decide) ?_
        refine wi5_4 dX15_holds_77 ?_
        refine wp_aload_n dX15_holds_79 rfl ?_
        refine wp_geti dX15_holds_80 fk15_20_1 (cb_18 hC) (ck_18 hC) rfl ?_
        refine wp_if_eq 90 dX15_holds_83 (by decide) (fun hc => ?_) (fun hc => ?_)
        · replace h := h.1 hc
          refine wp_iload dX15_holds_90 rfl ?_
          refine wp_if_eq 99 dX15_holds_92 (by decide) (fun hc => absurd hc (by decide)) (fun _ => ?_)
          refine wp_iconst (v := 1) dX15_holds_95 rfl ?_
          refine wp_goto 100 dX15_holds_96 (by decide) ?_
          exact wp_iret dX15_holds_100 rfl ⟨_, rfl, rfl, rfl, rfl, h⟩
        · replace h := h.2 hc
          refine wp_iconst (v := 2) dX15_holds_86 rfl ?_
          refine wp_goto 100 dX15_holds_87 (by decide) ?_
          exact wp_iret dX15_holds_100 rfl ⟨_, rfl, rfl, rfl, rfl, h⟩
    · replace h := h.2 hc
      refine wp_iload_n dX15_holds_54 rfl ?_
      refine wp_iload_n dX15_holds_55 rfl ?_
      refine wp_icmp_le 63 dX15_holds_56 (by decide) (fun hc => ?_) (fun hc => ?_)
      · replace h := h.1 hc
        refine wp_iconst (v := 0) dX15_holds_63 rfl ?_
        refine wp_goto 77 dX15_holds_64 (by decide) ?_
        refine wi5_4 dX15_holds_77 ?_
        refine wp_aload_n dX15_holds_79 rfl ?_
        refine wp_geti dX15_holds_80 fk15_20_1 (cb_18 hC) (ck_18 hC) rfl ?_
        refine wp_if_eq 90 dX15_holds_83 (by decide) (fun hc => ?_) (fun hc => ?_)
        · replace h := h.1 hc
          refine wp_iload dX15_holds_90 rfl ?_
          refine wp_if_eq 99 dX15_holds_92 (by decide) (fun _ => ?_) (fun hc => absurd hc (by decide))
          refine wp_iconst (v := 0) dX15_holds_99 rfl ?_
          exact wp_iret dX15_holds_100 rfl ⟨_, rfl, rfl, rfl, rfl, h⟩
        · replace h := h.2 hc
          refine wp_iconst (v := 2) dX15_holds_86 rfl ?_
          refine wp_goto 100 dX15_holds_87 (by decide) ?_
          exact wp_iret dX15_holds_100 rfl ⟨_, rfl, rfl, rfl, rfl, h⟩
      · replace h := h.2 (Int32.not_le.mp hc)
        refine wp_iconst (v := 1) dX15_holds_59 rfl ?_
        refine wp_goto 77 dX15_holds_60 (by decide) ?_
        refine wi5_4 dX15_holds_77 ?_
        refine wp_aload_n dX15_holds_79 rfl ?_
        refine wp_geti dX15_holds_80 fk15_20_1 (cb_18 hC) (ck_18 hC) rfl ?_
        refine wp_if_eq 90 dX15_holds_83 (by decide) (fun hc => ?_) (fun hc => ?_)
        · replace h := h.1 hc
          refine wp_iload dX15_holds_90 rfl ?_
          refine wp_if_eq 99 dX15_holds_92 (by decide) (fun hc => absurd hc (by decide)) (fun _ => ?_)
          refine wp_iconst (v := 1) dX15_holds_95 rfl ?_
          refine wp_goto 100 dX15_holds_96 (by decide) ?_
          exact wp_iret dX15_holds_100 rfl ⟨_, rfl, rfl, rfl, rfl, h⟩
        · replace h := h.2 hc
          refine wp_iconst (v := 2) dX15_holds_86 rfl ?_
          refine wp_goto 100 dX15_holds_87 (by decide) ?_
          exact wp_iret dX15_holds_100 rfl ⟨_, rfl, rfl, rfl, rfl, h⟩
  · replace h := h.2 hc
    refine wp_iload_n dX15_holds_32 rfl ?_
    refine wp_iload_n dX15_holds_33 rfl ?_
    refine wp_icmp_ge 41 dX15_holds_34 (by decide) (fun hc => ?_) (fun hc => ?_)
    · replace h := h.1 hc
      refine wp_iconst (v := 0) dX15_holds_41 rfl ?_
      refine wp_goto 77 dX15_holds_42 (by decide) ?_
      refine wi5_4 dX15_holds_77 ?_
      refine wp_aload_n dX15_holds_79 rfl ?_
      refine wp_geti dX15_holds_80 fk15_20_1 (cb_18 hC) (ck_18 hC) rfl ?_
      refine wp_if_eq 90 dX15_holds_83 (by decide) (fun hc => ?_) (fun hc => ?_)
      · replace h := h.1 hc
        refine wp_iload dX15_holds_90 rfl ?_
        refine wp_if_eq 99 dX15_holds_92 (by decide) (fun _ => ?_) (fun hc => absurd hc (by decide))
        refine wp_iconst (v := 0) dX15_holds_99 rfl ?_
        exact wp_iret dX15_holds_100 rfl ⟨_, rfl, rfl, rfl, rfl, h⟩
      · replace h := h.2 hc
        refine wp_iconst (v := 2) dX15_holds_86 rfl ?_
        refine wp_goto 100 dX15_holds_87 (by decide) ?_
        exact wp_iret dX15_holds_100 rfl ⟨_, rfl, rfl, rfl, rfl, h⟩
    · replace h := h.2 (Int32.not_le.mp hc)
      refine wp_iconst (v := 1) dX15_holds_37 rfl ?_
      refine wp_goto 77 dX15_holds_38 (by decide) ?_
      refine wi5_4 dX15_holds_77 ?_
      refine wp_aload_n dX15_holds_79 rfl ?_
      refine wp_geti dX15_holds_80 fk15_20_1 (cb_18 hC) (ck_18 hC) rfl ?_
      refine wp_if_eq 90 dX15_holds_83 (by decide) (fun hc => ?_) (fun hc => ?_)
      · replace h := h.1 hc
        refine wp_iload dX15_holds_90 rfl ?_
        refine wp_if_eq 99 dX15_holds_92 (by decide) (fun hc => absurd hc (by decide)) (fun _ => ?_)
        refine wp_iconst (v := 1) dX15_holds_95 rfl ?_
        refine wp_goto 100 dX15_holds_96 (by decide) ?_
        exact wp_iret dX15_holds_100 rfl ⟨_, rfl, rfl, rfl, rfl, h⟩
      · replace h := h.2 hc
        refine wp_iconst (v := 2) dX15_holds_86 rfl ?_
        refine wp_goto 100 dX15_holds_87 (by decide) ?_
        exact wp_iret dX15_holds_100 rfl ⟨_, rfl, rfl, rfl, rfl, h⟩
theorem b5_tells_0 {E : eT} {Q : Int32 → vT → Prop} {V : vT} {tl : Nat} {o : Nat} {x1 : Int32} (hC : CM E tl) (hX : TX E o) (h : w5_tells E Q 2 [some (vr o), some (vi x1), some (vr 18), some (vi 0)] [] V) : w5_tells E Q 0 [some (vr o), some (vi x1), some (vr 18), none] [] V := by
  refine wp_iconst (v := 0) dX5_tells_0 rfl ?_
  refine wi4_3 dX5_tells_1 ?_
  exact h
theorem b5_tells_2 {E : eT} {Q : Int32 → vT → Prop} {V : vT} {tl : Nat} {o : Nat} {x1 x3 : Int32} (hC : CM E tl) (hX : TX E o) (h : ((V o 3) ≤ x3 → Q 0 V) ∧ (x3 < (V o 3) → vp_in x3 16 ∧ ((¬ (V (o + 1) ((x3).toNatClampNeg)) = x1 → w5_tells E Q 2 [some (vr o), some (vi x1), some (vr 18), some (vi (x3 + 1))] [] V) ∧ ((V (o + 1) ((x3).toNatClampNeg)) = x1 → vp_in x3 16 ∧ (∃ a27, E.2.2.2.2 (o + 3) ((x3).toNatClampNeg) = some a27 ∧ cHolds E 41 a27 V (fun r27 V27 => (¬ r27 = 1 → w5_tells E Q 2 [some (vr o), some (vi x1), some (vr 18), some (vi (x3 + 1))] [] V27) ∧ (r27 = 1 → vp_in x3 16 ∧ (∃ a41, E.2.2.2.2 (o + 2) ((x3).toNatClampNeg) = some a41 ∧ ((16 ≤ a41 ∧ a41 < E.2.2.1) ∧ E.2.2.2.1 a41 = .inl 7) ∧ c8_told E a41 V27 (fun r41 V41 => Q r41 V41))))))))) : w5_tells E Q 2 [some (vr o), some (vi x1), some (vr 18), some (vi x3)] [] V := by
  refine wp_iload_n dX5_tells_2 rfl ?_
  refine wp_aload_n dX5_tells_3 rfl ?_
  refine wp_geti dX5_tells_4 fk5_27_4 (TX.b0 hX) (TX.k0 hX) rfl ?_
  refine wp_icmp_ge 51 dX5_tells_7 (by decide) (fun hc => ?_) (fun hc => ?_)
  · replace h := h.1 hc
    refine wp_iconst (v := 0) dX5_tells_51 rfl ?_
    exact wp_iret dX5_tells_52 rfl ⟨_, rfl, rfl, rfl, rfl, h⟩
  · replace h := h.2 (Int32.not_le.mp hc)
    refine wp_aload_n dX5_tells_10 rfl ?_
    refine wp_getrs dX5_tells_11 fk5_9_4 (TX.b0 hX) (TX.k0 hX) rfl (TX.r0 hX) ?_
    refine wp_iload_n dX5_tells_14 rfl ?_
    refine wp_iald dX5_tells_15 (TX.b1 hX).2 (TX.k1 hX) h.1 ?_
    replace h := h.2
    refine wp_iload_n dX5_tells_16 rfl ?_
    refine wp_icmp_ne 45 dX5_tells_17 (by decide) (fun hc => ?_) (fun hc => ?_)
    · replace h := h.1 hc
      refine wc4_3 1 dX5_tells_45 rfl ?_
      refine wp_goto 2 dX5_tells_48 (by decide) ?_
      exact h
    · replace h := h.2 hc
      refine wp_aload_n dX5_tells_20 rfl ?_
      refine wp_getrs dX5_tells_21 fk5_23_4 (TX.b0 hX) (TX.k0 hX) rfl (TX.r2 hX) ?_
      refine wp_iload_n dX5_tells_24 rfl ?_
      refine wp_aald dX5_tells_25 (TX.b3 hX).2 (TX.k3 hX) (by decide) h.1 ?_
      replace h := h.2
      refine wp_aload_n dX5_tells_26 rfl ?_
      obtain ⟨a27, hqa27, h⟩ := h
      rw [hqa27]
      refine wq_holds lk5_31_10 lk5_31_11 lk5_31_12 dX5_tells_27 h (by decide) ⟨Nat.le_refl _, Nat.le_refl _⟩ (Nat.le_of_ble_eq_true rfl) (fun r27 V27 h => ?_)
      refine wp_iconst (v := 1) dX5_tells_30 rfl ?_
      refine wp_icmp_ne 45 dX5_tells_31 (by decide) (fun hc => ?_) (fun hc => ?_)
      · replace h := h.1 hc
        refine wc4_3 1 dX5_tells_45 rfl ?_
        refine wp_goto 2 dX5_tells_48 (by decide) ?_
        exact h
      · replace h := h.2 hc
        refine wp_aload_n dX5_tells_34 rfl ?_
        refine wp_getrs dX5_tells_35 fk5_17_4 (TX.b0 hX) (TX.k0 hX) rfl (TX.r1 hX) ?_
        refine wp_iload_n dX5_tells_38 rfl ?_
        refine wp_aald dX5_tells_39 (TX.b2 hX).2 (TX.k2 hX) (by decide) h.1 ?_
        replace h := h.2
        refine wp_aload_n dX5_tells_40 rfl ?_
        obtain ⟨a41, hqa41, h⟩ := h
        rw [hqa41]
        obtain ⟨⟨hba41, hka41⟩, h⟩ := h
        refine wq_UI1 lk5_35_7 rfl hba41 hka41 dX5_tells_41 h (rmQ_ok (by decide) (by decide)) ⟨Nat.le_refl _, Nat.le_refl _⟩ (Nat.le_of_ble_eq_true rfl) (fun r41 V41 h => ?_)
        exact wp_iret dX5_tells_44 rfl ⟨_, rfl, rfl, rfl, rfl, h⟩
theorem n5_tells {E : eT} {Q : Int32 → vT → Prop} {V : vT} {o : Nat} {x1 : Int32} (h : w5_tells E Q 0 [some (vr o), some (vi x1), some (vr 18), none] [] V) : c5_tells E o x1 V Q := MOk.enter [some (vr o), some (vi x1), some (vr 18), none] pn_X5 rfl rfl (Nat.le_of_ble_eq_true rfl) rfl h
theorem b5_says_0 {E : eT} {Q : Int32 → vT → Prop} {V : vT} {tl : Nat} {o : Nat} {x1 : Int32} (hC : CM E tl) (hX : TX E o) (h : w5_says E Q 2 [some (vr o), some (vi x1), some (vr 18), some (vi 0)] [] V) : w5_says E Q 0 [some (vr o), some (vi x1), some (vr 18), none] [] V := by
  refine wp_iconst (v := 0) dX5_says_0 rfl ?_
  refine wi4_3 dX5_says_1 ?_
  exact h
theorem b5_says_2 {E : eT} {Q : Int32 → vT → Prop} {V : vT} {tl : Nat} {o : Nat} {x1 x3 : Int32} (hC : CM E tl) (hX : TX E o) (h : ((V o 3) ≤ x3 → Q 0 V) ∧ (x3 < (V o 3) → vp_in x3 16 ∧ ((¬ (V (o + 1) ((x3).toNatClampNeg)) = x1 → w5_says E Q 2 [some (vr o), some (vi x1), some (vr 18), some (vi (x3 + 1))] [] V) ∧ ((V (o + 1) ((x3).toNatClampNeg)) = x1 → vp_in x3 16 ∧ (∃ a27, E.2.2.2.2 (o + 3) ((x3).toNatClampNeg) = some a27 ∧ cHolds E 41 a27 V (fun r27 V27 => (¬ r27 = 1 → w5_says E Q 2 [some (vr o), some (vi x1), some (vr 18), some (vi (x3 + 1))] [] V27) ∧ (r27 = 1 → Q 1 V27))))))) : w5_says E Q 2 [some (vr o), some (vi x1), some (vr 18), some (vi x3)] [] V := by
  refine wp_iload_n dX5_says_2 rfl ?_
  refine wp_aload_n dX5_says_3 rfl ?_
  refine wp_geti dX5_says_4 fk5_27_4 (TX.b0 hX) (TX.k0 hX) rfl ?_
  refine wp_icmp_ge 42 dX5_says_7 (by decide) (fun hc => ?_) (fun hc => ?_)
  · replace h := h.1 hc
    refine wp_iconst (v := 0) dX5_says_42 rfl ?_
    exact wp_iret dX5_says_43 rfl ⟨_, rfl, rfl, rfl, rfl, h⟩
  · replace h := h.2 (Int32.not_le.mp hc)
    refine wp_aload_n dX5_says_10 rfl ?_
    refine wp_getrs dX5_says_11 fk5_9_4 (TX.b0 hX) (TX.k0 hX) rfl (TX.r0 hX) ?_
    refine wp_iload_n dX5_says_14 rfl ?_
    refine wp_iald dX5_says_15 (TX.b1 hX).2 (TX.k1 hX) h.1 ?_
    replace h := h.2
    refine wp_iload_n dX5_says_16 rfl ?_
    refine wp_icmp_ne 36 dX5_says_17 (by decide) (fun hc => ?_) (fun hc => ?_)
    · replace h := h.1 hc
      refine wc4_3 1 dX5_says_36 rfl ?_
      refine wp_goto 2 dX5_says_39 (by decide) ?_
      exact h
    · replace h := h.2 hc
      refine wp_aload_n dX5_says_20 rfl ?_
      refine wp_getrs dX5_says_21 fk5_23_4 (TX.b0 hX) (TX.k0 hX) rfl (TX.r2 hX) ?_
      refine wp_iload_n dX5_says_24 rfl ?_
      refine wp_aald dX5_says_25 (TX.b3 hX).2 (TX.k3 hX) (by decide) h.1 ?_
      replace h := h.2
      refine wp_aload_n dX5_says_26 rfl ?_
      obtain ⟨a27, hqa27, h⟩ := h
      rw [hqa27]
      refine wq_holds lk5_31_10 lk5_31_11 lk5_31_12 dX5_says_27 h (by decide) ⟨Nat.le_refl _, Nat.le_refl _⟩ (Nat.le_of_ble_eq_true rfl) (fun r27 V27 h => ?_)
      refine wp_iconst (v := 1) dX5_says_30 rfl ?_
      refine wp_icmp_ne 36 dX5_says_31 (by decide) (fun hc => ?_) (fun hc => ?_)
      · replace h := h.1 hc
        refine wc4_3 1 dX5_says_36 rfl ?_
        refine wp_goto 2 dX5_says_39 (by decide) ?_
        exact h
      · replace h := h.2 hc
        refine wp_iconst (v := 1) dX5_says_34 rfl ?_
        exact wp_iret dX5_says_35 rfl ⟨_, rfl, rfl, rfl, rfl, h⟩
theorem n5_says {E : eT} {Q : Int32 → vT → Prop} {V : vT} {o : Nat} {x1 : Int32} (h : w5_says E Q 0 [some (vr o), some (vi x1), some (vr 18), none] [] V) : c5_says E o x1 V Q := MOk.enter [some (vr o), some (vi x1), some (vr 18), none] pn_X5 rfl rfl (Nat.le_of_ble_eq_true rfl) rfl h
