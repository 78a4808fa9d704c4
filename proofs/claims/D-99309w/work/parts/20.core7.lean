/-! CORE 7: methods that make cells or set references: their ends, their calls; what stays when a cell is made -/
def XR (k : Option Nat → Nat → kT → rT → vT → Prop) : Option aV → Nat → kT → rT → vT → Prop := fun r n K Rf V => ∃ x, r = some (.inr x) ∧ k x n K Rf V
def XI (k : Int32 → Nat → kT → rT → vT → Prop) : Option aV → Nat → kT → rT → vT → Prop := fun r n K Rf V => ∃ x, r = some (.inl x) ∧ k x n K Rf V
def XV (k : Nat → kT → rT → vT → Prop) : Option aV → Nat → kT → rT → vT → Prop := fun r n K Rf V => r = none ∧ k n K Rf V
section XP
variable {l : Launch} {G : gT} {R : Room} {own nm : String} {code : ByteArray} {maxL : Nat} {ret : Option FieldType} {Z : List Frame → Array Value → State → State → Prop} {pc : Nat} {ls : List (Option aV)} {st : List aV} {n : Nat} {K : kT} {Rf : rT} {V : vT} {ca sa : Nat}
theorem wx_VI0 {ix : Nat} {y : MethodName} {by_ : ByteArray} {mL : Nat} {rt : Option FieldType} {d' mc' ms' : Nat} {k : Int32 → Nat → kT → rT → vT → Prop} {b ci : Nat} {C : String} {T : u_T} {N : Nat} (hL : LkV own ix C y by_ mL rt 0) (hci : qcl[ci]? = some (C, T, N)) (hbn : 16 ≤ b ∧ b < n) (hkb : K b = .inl ci) (hdg : decode code pc = .ok (.invokevirtual ix, 3)) (hok : MOk l G d' y by_ mL rt [.inr (some b)] n K Rf V mc' ms' (XI k)) (hR : (rmQ d' mc' ms').frames + 1 ≤ R.frames ∧ 8 + (mL + 11) + (rmQ d' mc' ms').locals ≤ R.locals) (hroom : ca + mc' ≤ R.cells ∧ sa + ms' ≤ R.slots) (hrest : st.length ≤ 8) (kk : ∀ (x9 : Int32) (n' : Nat) (K' : kT) (Rf' : rT) (V' : vT), k x9 n' K' Rf' V' → wp l G R own nm code maxL ret Z (pc + 3) ls (.inl x9 :: st) n' K' Rf' V' (ca + mc') (sa + ms')) : wp l G R own nm code maxL ret Z pc ls (.inr (some b) :: st) n K Rf V ca sa :=
  wp_callVg [] hL hci hbn hkb hdg hok hR hroom hrest (fun r n' K' Rf' V' hq => by obtain ⟨x9, rfl, h9⟩ := hq; exact kk x9 n' K' Rf' V' h9)
theorem wx_VR0 {ix : Nat} {y : MethodName} {by_ : ByteArray} {mL : Nat} {rt : Option FieldType} {d' mc' ms' : Nat} {k : Option Nat → Nat → kT → rT → vT → Prop} {b ci : Nat} {C : String} {T : u_T} {N : Nat} (hL : LkV own ix C y by_ mL rt 0) (hci : qcl[ci]? = some (C, T, N)) (hbn : 16 ≤ b ∧ b < n) (hkb : K b = .inl ci) (hdg : decode code pc = .ok (.invokevirtual ix, 3)) (hok : MOk l G d' y by_ mL rt [.inr (some b)] n K Rf V mc' ms' (XR k)) (hR : (rmQ d' mc' ms').frames + 1 ≤ R.frames ∧ 8 + (mL + 11) + (rmQ d' mc' ms').locals ≤ R.locals) (hroom : ca + mc' ≤ R.cells ∧ sa + ms' ≤ R.slots) (hrest : st.length ≤ 8) (kk : ∀ (x9 : Option Nat) (n' : Nat) (K' : kT) (Rf' : rT) (V' : vT), k x9 n' K' Rf' V' → wp l G R own nm code maxL ret Z (pc + 3) ls (.inr x9 :: st) n' K' Rf' V' (ca + mc') (sa + ms')) : wp l G R own nm code maxL ret Z pc ls (.inr (some b) :: st) n K Rf V ca sa :=
  wp_callVg [] hL hci hbn hkb hdg hok hR hroom hrest (fun r n' K' Rf' V' hq => by obtain ⟨x9, rfl, h9⟩ := hq; exact kk x9 n' K' Rf' V' h9)
theorem wx_VV0 {ix : Nat} {y : MethodName} {by_ : ByteArray} {mL : Nat} {rt : Option FieldType} {d' mc' ms' : Nat} {k : Nat → kT → rT → vT → Prop} {b ci : Nat} {C : String} {T : u_T} {N : Nat} (hL : LkV own ix C y by_ mL rt 0) (hci : qcl[ci]? = some (C, T, N)) (hbn : 16 ≤ b ∧ b < n) (hkb : K b = .inl ci) (hdg : decode code pc = .ok (.invokevirtual ix, 3)) (hok : MOk l G d' y by_ mL rt [.inr (some b)] n K Rf V mc' ms' (XV k)) (hR : (rmQ d' mc' ms').frames + 1 ≤ R.frames ∧ 8 + (mL + 11) + (rmQ d' mc' ms').locals ≤ R.locals) (hroom : ca + mc' ≤ R.cells ∧ sa + ms' ≤ R.slots) (hrest : st.length ≤ 8) (kk : ∀ (n' : Nat) (K' : kT) (Rf' : rT) (V' : vT), k  n' K' Rf' V' → wp l G R own nm code maxL ret Z (pc + 3) ls (st) n' K' Rf' V' (ca + mc') (sa + ms')) : wp l G R own nm code maxL ret Z pc ls (.inr (some b) :: st) n K Rf V ca sa :=
  wp_callVg [] hL hci hbn hkb hdg hok hR hroom hrest (fun r n' K' Rf' V' hq => by obtain ⟨rfl, h9⟩ := hq; exact kk  n' K' Rf' V' h9)
theorem wx_I0 {ix : Nat} {y : MethodName} {by_ : ByteArray} {mL : Nat} {d' mc' ms' : Nat} {k : Nat → kT → rT → vT → Prop} {b : Nat} (hL : LkI own ix y by_ mL 0) (hdg : decode code pc = .ok (.invokespecial ix, 3)) (hok : MOk l G d' y by_ mL none [.inr (some b)] n K Rf V mc' ms' (XV k)) (hR : (rmQ d' mc' ms').frames + 1 ≤ R.frames ∧ 8 + (mL + 11) + (rmQ d' mc' ms').locals ≤ R.locals) (hroom : ca + mc' ≤ R.cells ∧ sa + ms' ≤ R.slots) (hrest : st.length ≤ 8) (kk : ∀ (n' : Nat) (K' : kT) (Rf' : rT) (V' : vT), k n' K' Rf' V' → wp l G R own nm code maxL ret Z (pc + 3) ls st n' K' Rf' V' (ca + mc') (sa + ms')) : wp l G R own nm code maxL ret Z pc ls (.inr (some b) :: st) n K Rf V ca sa :=
  wp_callIg [] hL hdg hok hR hroom hrest (fun r n' K' Rf' V' hq => by obtain ⟨rfl, h9⟩ := hq; exact kk n' K' Rf' V' h9)
theorem wx_IN0 {ix : Nat} {y : MethodName} {by_ : ByteArray} {mL : Nat} {d' mc' ms' : Nat} {k : Nat → kT → rT → vT → Prop} {b : Nat} (hL : LkIN own ix y by_ mL 0) (hdg : decode code pc = .ok (.invokespecial ix, 3)) (hok : MOk l G d' y by_ mL none [.inr (some b)] n K Rf V mc' ms' (XV k)) (hR : (rmQ d' mc' ms').frames + 1 ≤ R.frames ∧ 8 + (mL + 11) + (rmQ d' mc' ms').locals ≤ R.locals) (hroom : ca + mc' ≤ R.cells ∧ sa + ms' ≤ R.slots) (hrest : st.length ≤ 8) (kk : ∀ (n' : Nat) (K' : kT) (Rf' : rT) (V' : vT), k n' K' Rf' V' → wp l G R own nm code maxL ret Z (pc + 3) ls st n' K' Rf' V' (ca + mc') (sa + ms')) : wp l G R own nm code maxL ret Z pc ls (.inr (some b) :: st) n K Rf V ca sa :=
  wp_callINg [] hL hdg hok hR hroom hrest (fun r n' K' Rf' V' hq => by obtain ⟨rfl, h9⟩ := hq; exact kk n' K' Rf' V' h9)
theorem wx_VI1 {ix : Nat} {y : MethodName} {by_ : ByteArray} {mL : Nat} {rt : Option FieldType} {d' mc' ms' : Nat} {k : Int32 → Nat → kT → rT → vT → Prop} {x1 : aV} {b ci : Nat} {C : String} {T : u_T} {N : Nat} (hL : LkV own ix C y by_ mL rt 1) (hci : qcl[ci]? = some (C, T, N)) (hbn : 16 ≤ b ∧ b < n) (hkb : K b = .inl ci) (hdg : decode code pc = .ok (.invokevirtual ix, 3)) (hok : MOk l G d' y by_ mL rt [.inr (some b), x1] n K Rf V mc' ms' (XI k)) (hR : (rmQ d' mc' ms').frames + 1 ≤ R.frames ∧ 8 + (mL + 11) + (rmQ d' mc' ms').locals ≤ R.locals) (hroom : ca + mc' ≤ R.cells ∧ sa + ms' ≤ R.slots) (hrest : st.length ≤ 8) (kk : ∀ (x9 : Int32) (n' : Nat) (K' : kT) (Rf' : rT) (V' : vT), k x9 n' K' Rf' V' → wp l G R own nm code maxL ret Z (pc + 3) ls (.inl x9 :: st) n' K' Rf' V' (ca + mc') (sa + ms')) : wp l G R own nm code maxL ret Z pc ls (x1 :: .inr (some b) :: st) n K Rf V ca sa :=
  wp_callVg [x1] hL hci hbn hkb hdg hok hR hroom hrest (fun r n' K' Rf' V' hq => by obtain ⟨x9, rfl, h9⟩ := hq; exact kk x9 n' K' Rf' V' h9)
theorem wx_VR1 {ix : Nat} {y : MethodName} {by_ : ByteArray} {mL : Nat} {rt : Option FieldType} {d' mc' ms' : Nat} {k : Option Nat → Nat → kT → rT → vT → Prop} {x1 : aV} {b ci : Nat} {C : String} {T : u_T} {N : Nat} (hL : LkV own ix C y by_ mL rt 1) (hci : qcl[ci]? = some (C, T, N)) (hbn : 16 ≤ b ∧ b < n) (hkb : K b = .inl ci) (hdg : decode code pc = .ok (.invokevirtual ix, 3)) (hok : MOk l G d' y by_ mL rt [.inr (some b), x1] n K Rf V mc' ms' (XR k)) (hR : (rmQ d' mc' ms').frames + 1 ≤ R.frames ∧ 8 + (mL + 11) + (rmQ d' mc' ms').locals ≤ R.locals) (hroom : ca + mc' ≤ R.cells ∧ sa + ms' ≤ R.slots) (hrest : st.length ≤ 8) (kk : ∀ (x9 : Option Nat) (n' : Nat) (K' : kT) (Rf' : rT) (V' : vT), k x9 n' K' Rf' V' → wp l G R own nm code maxL ret Z (pc + 3) ls (.inr x9 :: st) n' K' Rf' V' (ca + mc') (sa + ms')) : wp l G R own nm code maxL ret Z pc ls (x1 :: .inr (some b) :: st) n K Rf V ca sa :=
  wp_callVg [x1] hL hci hbn hkb hdg hok hR hroom hrest (fun r n' K' Rf' V' hq => by obtain ⟨x9, rfl, h9⟩ := hq; exact kk x9 n' K' Rf' V' h9)
theorem wx_VV1 {ix : Nat} {y : MethodName} {by_ : ByteArray} {mL : Nat} {rt : Option FieldType} {d' mc' ms' : Nat} {k : Nat → kT → rT → vT → Prop} {x1 : aV} {b ci : Nat} {C : String} {T : u_T} {N : Nat} (hL : LkV own ix C y by_ mL rt 1) (hci : qcl[ci]? = some (C, T, N)) (hbn : 16 ≤ b ∧ b < n) (hkb : K b = .inl ci) (hdg : decode code pc = .ok (.invokevirtual ix, 3)) (hok : MOk l G d' y by_ mL rt [.inr (some b), x1] n K Rf V mc' ms' (XV k)) (hR : (rmQ d' mc' ms').frames + 1 ≤ R.frames ∧ 8 + (mL + 11) + (rmQ d' mc' ms').locals ≤ R.locals) (hroom : ca + mc' ≤ R.cells ∧ sa + ms' ≤ R.slots) (hrest : st.length ≤ 8) (kk : ∀ (n' : Nat) (K' : kT) (Rf' : rT) (V' : vT), k  n' K' Rf' V' → wp l G R own nm code maxL ret Z (pc + 3) ls (st) n' K' Rf' V' (ca + mc') (sa + ms')) : wp l G R own nm code maxL ret Z pc ls (x1 :: .inr (some b) :: st) n K Rf V ca sa :=
  wp_callVg [x1] hL hci hbn hkb hdg hok hR hroom hrest (fun r n' K' Rf' V' hq => by obtain ⟨rfl, h9⟩ := hq; exact kk  n' K' Rf' V' h9)
theorem wx_I1 {ix : Nat} {y : MethodName} {by_ : ByteArray} {mL : Nat} {d' mc' ms' : Nat} {k : Nat → kT → rT → vT → Prop} {x1 : aV} {b : Nat} (hL : LkI own ix y by_ mL 1) (hdg : decode code pc = .ok (.invokespecial ix, 3)) (hok : MOk l G d' y by_ mL none [.inr (some b), x1] n K Rf V mc' ms' (XV k)) (hR : (rmQ d' mc' ms').frames + 1 ≤ R.frames ∧ 8 + (mL + 11) + (rmQ d' mc' ms').locals ≤ R.locals) (hroom : ca + mc' ≤ R.cells ∧ sa + ms' ≤ R.slots) (hrest : st.length ≤ 8) (kk : ∀ (n' : Nat) (K' : kT) (Rf' : rT) (V' : vT), k n' K' Rf' V' → wp l G R own nm code maxL ret Z (pc + 3) ls st n' K' Rf' V' (ca + mc') (sa + ms')) : wp l G R own nm code maxL ret Z pc ls (x1 :: .inr (some b) :: st) n K Rf V ca sa :=
  wp_callIg [x1] hL hdg hok hR hroom hrest (fun r n' K' Rf' V' hq => by obtain ⟨rfl, h9⟩ := hq; exact kk n' K' Rf' V' h9)
theorem wx_IN1 {ix : Nat} {y : MethodName} {by_ : ByteArray} {mL : Nat} {d' mc' ms' : Nat} {k : Nat → kT → rT → vT → Prop} {x1 : aV} {b : Nat} (hL : LkIN own ix y by_ mL 1) (hdg : decode code pc = .ok (.invokespecial ix, 3)) (hok : MOk l G d' y by_ mL none [.inr (some b), x1] n K Rf V mc' ms' (XV k)) (hR : (rmQ d' mc' ms').frames + 1 ≤ R.frames ∧ 8 + (mL + 11) + (rmQ d' mc' ms').locals ≤ R.locals) (hroom : ca + mc' ≤ R.cells ∧ sa + ms' ≤ R.slots) (hrest : st.length ≤ 8) (kk : ∀ (n' : Nat) (K' : kT) (Rf' : rT) (V' : vT), k n' K' Rf' V' → wp l G R own nm code maxL ret Z (pc + 3) ls st n' K' Rf' V' (ca + mc') (sa + ms')) : wp l G R own nm code maxL ret Z pc ls (x1 :: .inr (some b) :: st) n K Rf V ca sa :=
  wp_callINg [x1] hL hdg hok hR hroom hrest (fun r n' K' Rf' V' hq => by obtain ⟨rfl, h9⟩ := hq; exact kk n' K' Rf' V' h9)
theorem wx_VI2 {ix : Nat} {y : MethodName} {by_ : ByteArray} {mL : Nat} {rt : Option FieldType} {d' mc' ms' : Nat} {k : Int32 → Nat → kT → rT → vT → Prop} {x1 x2 : aV} {b ci : Nat} {C : String} {T : u_T} {N : Nat} (hL : LkV own ix C y by_ mL rt 2) (hci : qcl[ci]? = some (C, T, N)) (hbn : 16 ≤ b ∧ b < n) (hkb : K b = .inl ci) (hdg : decode code pc = .ok (.invokevirtual ix, 3)) (hok : MOk l G d' y by_ mL rt [.inr (some b), x1, x2] n K Rf V mc' ms' (XI k)) (hR : (rmQ d' mc' ms').frames + 1 ≤ R.frames ∧ 8 + (mL + 11) + (rmQ d' mc' ms').locals ≤ R.locals) (hroom : ca + mc' ≤ R.cells ∧ sa + ms' ≤ R.slots) (hrest : st.length ≤ 8) (kk : ∀ (x9 : Int32) (n' : Nat) (K' : kT) (Rf' : rT) (V' : vT), k x9 n' K' Rf' V' → wp l G R own nm code maxL ret Z (pc + 3) ls (.inl x9 :: st) n' K' Rf' V' (ca + mc') (sa + ms')) : wp l G R own nm code maxL ret Z pc ls (x2 :: x1 :: .inr (some b) :: st) n K Rf V ca sa :=
  wp_callVg [x1, x2] hL hci hbn hkb hdg hok hR hroom hrest (fun r n' K' Rf' V' hq => by obtain ⟨x9, rfl, h9⟩ := hq; exact kk x9 n' K' Rf' V' h9)
theorem wx_VR2 {ix : Nat} {y : MethodName} {by_ : ByteArray} {mL : Nat} {rt : Option FieldType} {d' mc' ms' : Nat} {k : Option Nat → Nat → kT → rT → vT → Prop} {x1 x2 : aV} {b ci : Nat} {C : String} {T : u_T} {N : Nat} (hL : LkV own ix C y by_ mL rt 2) (hci : qcl[ci]? = some (C, T, N)) (hbn : 16 ≤ b ∧ b < n) (hkb : K b = .inl ci) (hdg : decode code pc = .ok (.invokevirtual ix, 3)) (hok : MOk l G d' y by_ mL rt [.inr (some b), x1, x2] n K Rf V mc' ms' (XR k)) (hR : (rmQ d' mc' ms').frames + 1 ≤ R.frames ∧ 8 + (mL + 11) + (rmQ d' mc' ms').locals ≤ R.locals) (hroom : ca + mc' ≤ R.cells ∧ sa + ms' ≤ R.slots) (hrest : st.length ≤ 8) (kk : ∀ (x9 : Option Nat) (n' : Nat) (K' : kT) (Rf' : rT) (V' : vT), k x9 n' K' Rf' V' → wp l G R own nm code maxL ret Z (pc + 3) ls (.inr x9 :: st) n' K' Rf' V' (ca + mc') (sa + ms')) : wp l G R own nm code maxL ret Z pc ls (x2 :: x1 :: .inr (some b) :: st) n K Rf V ca sa :=
  wp_callVg [x1, x2] hL hci hbn hkb hdg hok hR hroom hrest (fun r n' K' Rf' V' hq => by obtain ⟨x9, rfl, h9⟩ := hq; exact kk x9 n' K' Rf' V' h9)
theorem wx_VV2 {ix : Nat} {y : MethodName} {by_ : ByteArray} {mL : Nat} {rt : Option FieldType} {d' mc' ms' : Nat} {k : Nat → kT → rT → vT → Prop} {x1 x2 : aV} {b ci : Nat} {C : String} {T : u_T} {N : Nat} (hL : LkV own ix C y by_ mL rt 2) (hci : qcl[ci]? = some (C, T, N)) (hbn : 16 ≤ b ∧ b < n) (hkb : K b = .inl ci) (hdg : decode code pc = .ok (.invokevirtual ix, 3)) (hok : MOk l G d' y by_ mL rt [.inr (some b), x1, x2] n K Rf V mc' ms' (XV k)) (hR : (rmQ d' mc' ms').frames + 1 ≤ R.frames ∧ 8 + (mL + 11) + (rmQ d' mc' ms').locals ≤ R.locals) (hroom : ca + mc' ≤ R.cells ∧ sa + ms' ≤ R.slots) (hrest : st.length ≤ 8) (kk : ∀ (n' : Nat) (K' : kT) (Rf' : rT) (V' : vT), k  n' K' Rf' V' → wp l G R own nm code maxL ret Z (pc + 3) ls (st) n' K' Rf' V' (ca + mc') (sa + ms')) : wp l G R own nm code maxL ret Z pc ls (x2 :: x1 :: .inr (some b) :: st) n K Rf V ca sa :=
  wp_callVg [x1, x2] hL hci hbn hkb hdg hok hR hroom hrest (fun r n' K' Rf' V' hq => by obtain ⟨rfl, h9⟩ := hq; exact kk  n' K' Rf' V' h9)
theorem wx_I2 {ix : Nat} {y : MethodName} {by_ : ByteArray} {mL : Nat} {d' mc' ms' : Nat} {k : Nat → kT → rT → vT → Prop} {x1 x2 : aV} {b : Nat} (hL : LkI own ix y by_ mL 2) (hdg : decode code pc = .ok (.invokespecial ix, 3)) (hok : MOk l G d' y by_ mL none [.inr (some b), x1, x2] n K Rf V mc' ms' (XV k)) (hR : (rmQ d' mc' ms').frames + 1 ≤ R.frames ∧ 8 + (mL + 11) + (rmQ d' mc' ms').locals ≤ R.locals) (hroom : ca + mc' ≤ R.cells ∧ sa + ms' ≤ R.slots) (hrest : st.length ≤ 8) (kk : ∀ (n' : Nat) (K' : kT) (Rf' : rT) (V' : vT), k n' K' Rf' V' → wp l G R own nm code maxL ret Z (pc + 3) ls st n' K' Rf' V' (ca + mc') (sa + ms')) : wp l G R own nm code maxL ret Z pc ls (x2 :: x1 :: .inr (some b) :: st) n K Rf V ca sa :=
  wp_callIg [x1, x2] hL hdg hok hR hroom hrest (fun r n' K' Rf' V' hq => by obtain ⟨rfl, h9⟩ := hq; exact kk n' K' Rf' V' h9)
theorem wx_IN2 {ix : Nat} {y : MethodName} {by_ : ByteArray} {mL : Nat} {d' mc' ms' : Nat} {k : Nat → kT → rT → vT → Prop} {x1 x2 : aV} {b : Nat} (hL : LkIN own ix y by_ mL 2) (hdg : decode code pc = .ok (.invokespecial ix, 3)) (hok : MOk l G d' y by_ mL none [.inr (some b), x1, x2] n K Rf V mc' ms' (XV k)) (hR : (rmQ d' mc' ms').frames + 1 ≤ R.frames ∧ 8 + (mL + 11) + (rmQ d' mc' ms').locals ≤ R.locals) (hroom : ca + mc' ≤ R.cells ∧ sa + ms' ≤ R.slots) (hrest : st.length ≤ 8) (kk : ∀ (n' : Nat) (K' : kT) (Rf' : rT) (V' : vT), k n' K' Rf' V' → wp l G R own nm code maxL ret Z (pc + 3) ls st n' K' Rf' V' (ca + mc') (sa + ms')) : wp l G R own nm code maxL ret Z pc ls (x2 :: x1 :: .inr (some b) :: st) n K Rf V ca sa :=
  wp_callINg [x1, x2] hL hdg hok hR hroom hrest (fun r n' K' Rf' V' hq => by obtain ⟨rfl, h9⟩ := hq; exact kk n' K' Rf' V' h9)
theorem wx_VI3 {ix : Nat} {y : MethodName} {by_ : ByteArray} {mL : Nat} {rt : Option FieldType} {d' mc' ms' : Nat} {k : Int32 → Nat → kT → rT → vT → Prop} {x1 x2 x3 : aV} {b ci : Nat} {C : String} {T : u_T} {N : Nat} (hL : LkV own ix C y by_ mL rt 3) (hci : qcl[ci]? = some (C, T, N)) (hbn : 16 ≤ b ∧ b < n) (hkb : K b = .inl ci) (hdg : decode code pc = .ok (.invokevirtual ix, 3)) (hok : MOk l G d' y by_ mL rt [.inr (some b), x1, x2, x3] n K Rf V mc' ms' (XI k)) (hR : (rmQ d' mc' ms').frames + 1 ≤ R.frames ∧ 8 + (mL + 11) + (rmQ d' mc' ms').locals ≤ R.locals) (hroom : ca + mc' ≤ R.cells ∧ sa + ms' ≤ R.slots) (hrest : st.length ≤ 8) (kk : ∀ (x9 : Int32) (n' : Nat) (K' : kT) (Rf' : rT) (V' : vT), k x9 n' K' Rf' V' → wp l G R own nm code maxL ret Z (pc + 3) ls (.inl x9 :: st) n' K' Rf' V' (ca + mc') (sa + ms')) : wp l G R own nm code maxL ret Z pc ls (x3 :: x2 :: x1 :: .inr (some b) :: st) n K Rf V ca sa :=
  wp_callVg [x1, x2, x3] hL hci hbn hkb hdg hok hR hroom hrest (fun r n' K' Rf' V' hq => by obtain ⟨x9, rfl, h9⟩ := hq; exact kk x9 n' K' Rf' V' h9)
theorem wx_VR3 {ix : Nat} {y : MethodName} {by_ : ByteArray} {mL : Nat} {rt : Option FieldType} {d' mc' ms' : Nat} {k : Option Nat → Nat → kT → rT → vT → Prop} {x1 x2 x3 : aV} {b ci : Nat} {C : String} {T : u_T} {N : Nat} (hL : LkV own ix C y by_ mL rt 3) (hci : qcl[ci]? = some (C, T, N)) (hbn : 16 ≤ b ∧ b < n) (hkb : K b = .inl ci) (hdg : decode code pc = .ok (.invokevirtual ix, 3)) (hok : MOk l G d' y by_ mL rt [.inr (some b), x1, x2, x3] n K Rf V mc' ms' (XR k)) (hR : (rmQ d' mc' ms').frames + 1 ≤ R.frames ∧ 8 + (mL + 11) + (rmQ d' mc' ms').locals ≤ R.locals) (hroom : ca + mc' ≤ R.cells ∧ sa + ms' ≤ R.slots) (hrest : st.length ≤ 8) (kk : ∀ (x9 : Option Nat) (n' : Nat) (K' : kT) (Rf' : rT) (V' : vT), k x9 n' K' Rf' V' → wp l G R own nm code maxL ret Z (pc + 3) ls (.inr x9 :: st) n' K' Rf' V' (ca + mc') (sa + ms')) : wp l G R own nm code maxL ret Z pc ls (x3 :: x2 :: x1 :: .inr (some b) :: st) n K Rf V ca sa :=
  wp_callVg [x1, x2, x3] hL hci hbn hkb hdg hok hR hroom hrest (fun r n' K' Rf' V' hq => by obtain ⟨x9, rfl, h9⟩ := hq; exact kk x9 n' K' Rf' V' h9)
theorem wx_VV3 {ix : Nat} {y : MethodName} {by_ : ByteArray} {mL : Nat} {rt : Option FieldType} {d' mc' ms' : Nat} {k : Nat → kT → rT → vT → Prop} {x1 x2 x3 : aV} {b ci : Nat} {C : String} {T : u_T} {N : Nat} (hL : LkV own ix C y by_ mL rt 3) (hci : qcl[ci]? = some (C, T, N)) (hbn : 16 ≤ b ∧ b < n) (hkb : K b = .inl ci) (hdg : decode code pc = .ok (.invokevirtual ix, 3)) (hok : MOk l G d' y by_ mL rt [.inr (some b), x1, x2, x3] n K Rf V mc' ms' (XV k)) (hR : (rmQ d' mc' ms').frames + 1 ≤ R.frames ∧ 8 + (mL + 11) + (rmQ d' mc' ms').locals ≤ R.locals) (hroom : ca + mc' ≤ R.cells ∧ sa + ms' ≤ R.slots) (hrest : st.length ≤ 8) (kk : ∀ (n' : Nat) (K' : kT) (Rf' : rT) (V' : vT), k  n' K' Rf' V' → wp l G R own nm code maxL ret Z (pc + 3) ls (st) n' K' Rf' V' (ca + mc') (sa + ms')) : wp l G R own nm code maxL ret Z pc ls (x3 :: x2 :: x1 :: .inr (some b) :: st) n K Rf V ca sa :=
  wp_callVg [x1, x2, x3] hL hci hbn hkb hdg hok hR hroom hrest (fun r n' K' Rf' V' hq => by obtain ⟨rfl, h9⟩ := hq; exact kk  n' K' Rf' V' h9)
theorem wx_I3 {ix : Nat} {y : MethodName} {by_ : ByteArray} {mL : Nat} {d' mc' ms' : Nat} {k : Nat → kT → rT → vT → Prop} {x1 x2 x3 : aV} {b : Nat} (hL : LkI own ix y by_ mL 3) (hdg : decode code pc = .ok (.invokespecial ix, 3)) (hok : MOk l G d' y by_ mL none [.inr (some b), x1, x2, x3] n K Rf V mc' ms' (XV k)) (hR : (rmQ d' mc' ms').frames + 1 ≤ R.frames ∧ 8 + (mL + 11) + (rmQ d' mc' ms').locals ≤ R.locals) (hroom : ca + mc' ≤ R.cells ∧ sa + ms' ≤ R.slots) (hrest : st.length ≤ 8) (kk : ∀ (n' : Nat) (K' : kT) (Rf' : rT) (V' : vT), k n' K' Rf' V' → wp l G R own nm code maxL ret Z (pc + 3) ls st n' K' Rf' V' (ca + mc') (sa + ms')) : wp l G R own nm code maxL ret Z pc ls (x3 :: x2 :: x1 :: .inr (some b) :: st) n K Rf V ca sa :=
  wp_callIg [x1, x2, x3] hL hdg hok hR hroom hrest (fun r n' K' Rf' V' hq => by obtain ⟨rfl, h9⟩ := hq; exact kk n' K' Rf' V' h9)
theorem wx_IN3 {ix : Nat} {y : MethodName} {by_ : ByteArray} {mL : Nat} {d' mc' ms' : Nat} {k : Nat → kT → rT → vT → Prop} {x1 x2 x3 : aV} {b : Nat} (hL : LkIN own ix y by_ mL 3) (hdg : decode code pc = .ok (.invokespecial ix, 3)) (hok : MOk l G d' y by_ mL none [.inr (some b), x1, x2, x3] n K Rf V mc' ms' (XV k)) (hR : (rmQ d' mc' ms').frames + 1 ≤ R.frames ∧ 8 + (mL + 11) + (rmQ d' mc' ms').locals ≤ R.locals) (hroom : ca + mc' ≤ R.cells ∧ sa + ms' ≤ R.slots) (hrest : st.length ≤ 8) (kk : ∀ (n' : Nat) (K' : kT) (Rf' : rT) (V' : vT), k n' K' Rf' V' → wp l G R own nm code maxL ret Z (pc + 3) ls st n' K' Rf' V' (ca + mc') (sa + ms')) : wp l G R own nm code maxL ret Z pc ls (x3 :: x2 :: x1 :: .inr (some b) :: st) n K Rf V ca sa :=
  wp_callINg [x1, x2, x3] hL hdg hok hR hroom hrest (fun r n' K' Rf' V' hq => by obtain ⟨rfl, h9⟩ := hq; exact kk n' K' Rf' V' h9)
theorem wp_aastq {o len t ci : Nat} {r : Option Nat} {x : Int32} {E C : String} {T : u_T} {N : Nat} (hdg : decode code pc = .ok (.aastore, 1)) (ho : 16 ≤ o ∧ o < n) (hk : K o = .inr (t, len)) (ht : arrTy t = .object E) (ht3 : ¬ t < 3) (ha : ∀ a, r = some a → (16 ≤ a ∧ a < n) ∧ K a = .inl ci) (hci : qcl[ci]? = some (C, T, N)) (hca : C = E ∨ Cond.castable C E ∈ nestQ) (hin : vp_in x len) (kk : wp l G R own nm code maxL ret Z (pc + 1) ls st n K (up2 Rf o x.toNatClampNeg r) V ca sa) : wp l G R own nm code maxL ret Z pc ls (.inr r :: .inl x :: .inr (some o) :: st) n K Rf V ca sa := by
  cases r with
  | none => exact wp_aastN hdg ho hk ht ht3 hin kk
  | some a => exact wp_aast hdg ho hk ht ht3 (ha a rfl).1 (ha a rfl).2 hci hca hin kk
end XP
/-- an environment that has more cells, and is as before on those that it had -/
def EX (E E' : eT) : Prop := E.2.2.1 ≤ E'.2.2.1 ∧ ∀ a, a < E.2.2.1 → E'.2.2.2.1 a = E.2.2.2.1 a ∧ ∀ k, E'.2.2.2.2 a k = E.2.2.2.2 a k
theorem EX.new {l : Launch} {G : gT} {n : Nat} {K : kT} {Rf : rT} (kd : Nat ⊕ (Nat × Nat)) : EX (l, G, n, K, Rf) (l, G, n + 1, upK K n kd, Rf) := ⟨Nat.le_succ _, fun a ha => ⟨upK_o _ (Nat.ne_of_lt ha), fun _ => rfl⟩⟩
theorem EX.rf (E : eT) : EX E E := ⟨Nat.le_refl _, fun _ _ => ⟨rfl, fun _ => rfl⟩⟩
theorem EX.tr {E E1 E2 : eT} (h : EX E E1) (h1 : EX E1 E2) : EX E E2 := ⟨Nat.le_trans h.1 h1.1, fun a ha => ⟨((h1.2 a (Nat.lt_of_lt_of_le ha h.1)).1).trans (h.2 a ha).1, fun k => ((h1.2 a (Nat.lt_of_lt_of_le ha h.1)).2 k).trans ((h.2 a ha).2 k)⟩⟩
section EXS
variable {E E' : eT} {tl f o : Nat}
theorem TX.ext (x : EX E E') (h : TX E o) : TX E' o := by
  obtain ⟨⟨h1, h2⟩, k0, k1, k2, k3, r0, r1, r2⟩ := h
  have e := x.1
  refine ⟨⟨h1, by omega⟩, ?_, ?_, ?_, ?_, ?_, ?_, ?_⟩
  · rw [(x.2 o (by omega)).1]; exact k0
  · rw [(x.2 (o + 1) (by omega)).1]; exact k1
  · rw [(x.2 (o + 2) (by omega)).1]; exact k2
  · rw [(x.2 (o + 3) (by omega)).1]; exact k3
  · rw [(x.2 o (by omega)).2]; exact r0
  · rw [(x.2 o (by omega)).2]; exact r1
  · rw [(x.2 o (by omega)).2]; exact r2
theorem RD.ext (x : EX E E') (h : RD E o) : RD E' o := by
  obtain ⟨⟨h1, h2⟩, k0, r1, r6, t⟩ := h
  have e := x.1
  refine ⟨⟨h1, by omega⟩, ?_, ?_, ?_, t.ext x⟩
  · rw [(x.2 o (by omega)).1]; exact k0
  · rw [(x.2 o (by omega)).2]; exact r1
  · rw [(x.2 o (by omega)).2]; exact r6
theorem FO.ext (x : EX E E') (h : FO E f) : FO E' f := by
  obtain ⟨⟨h1, h2⟩, k0, k1, k2, k3, k4, r0, r1, r2, r3, r7, ht⟩ := h
  have e := x.1
  refine ⟨⟨h1, by omega⟩, ?_, ?_, ?_, ?_, ?_, ?_, ?_, ?_, ?_, ?_, fun i hi => ?_⟩
  · rw [(x.2 f (by omega)).1]; exact k0
  · rw [(x.2 (f + 1) (by omega)).1]; exact k1
  · rw [(x.2 (f + 2) (by omega)).1]; exact k2
  · rw [(x.2 (f + 3) (by omega)).1]; exact k3
  · rw [(x.2 (f + 4) (by omega)).1]; exact k4
  · rw [(x.2 f (by omega)).2]; exact r0
  · rw [(x.2 f (by omega)).2]; exact r1
  · rw [(x.2 f (by omega)).2]; exact r2
  · rw [(x.2 f (by omega)).2]; exact r3
  · rw [(x.2 f (by omega)).2]; exact r7
  · rw [(x.2 (f + 4) (by omega)).2, (x.2 (f + 5 + i) (by omega)).1]; exact ht i hi
theorem SV.ext (x : EX E E') (h : SV E o) : SV E' o := by
  obtain ⟨⟨h1, h2⟩, k0, k1, r4, r5, r8⟩ := h
  have e := x.1
  refine ⟨⟨h1, by omega⟩, ?_, ?_, ?_, ?_, ?_⟩
  · rw [(x.2 o (by omega)).1]; exact k0
  · rw [(x.2 (o + 1) (by omega)).1]; exact k1
  · rw [(x.2 o (by omega)).2]; exact r4
  · rw [(x.2 o (by omega)).2]; exact r5
  · rw [(x.2 o (by omega)).2]; exact r8
theorem CL.ext (x : EX E E') (h : CL E o) : CL E' o := by
  obtain ⟨⟨h1, h2⟩, k0, k1, r4, r5, r8⟩ := h
  have e := x.1
  refine ⟨⟨h1, by omega⟩, ?_, ?_, ?_, ?_, ?_⟩
  · rw [(x.2 o (by omega)).1]; exact k0
  · rw [(x.2 (o + 1) (by omega)).1]; exact k1
  · rw [(x.2 o (by omega)).2]; exact r4
  · rw [(x.2 o (by omega)).2]; exact r5
  · rw [(x.2 o (by omega)).2]; exact r8
theorem STR.ext {ln : Nat} (x : EX E E') (h : STR E o ln) : STR E' o ln := by
  obtain ⟨⟨h1, h2, h3⟩, k0, r0, k3⟩ := h
  have e := x.1
  refine ⟨⟨h1, h2, by omega⟩, ?_, ?_, ?_⟩
  · rw [(x.2 o (by omega)).1]; exact k0
  · rw [(x.2 o (by omega)).2]; exact r0
  · rw [(x.2 (o + 3) (by omega)).1]; exact k3
theorem cmK_lt : ∀ q ∈ cmKs, q.1 < 245 := by decide
theorem CM.ext (x : EX E E') (h : CM E tl) : CM E' tl := by
  obtain ⟨h1, hk, hr, ⟨f1, f2, f3⟩, hg, hl, ht, s3, s4, s5⟩ := h
  have e := x.1
  refine ⟨by omega, fun q hq => ?_, fun q hq => ?_, ⟨f1.ext x, f2.ext x, f3.ext x⟩, fun i hi => ?_, ?_, ht.ext x, s3.ext x, s4.ext x, s5.ext x⟩
  · rw [(x.2 q.1 (Nat.lt_of_lt_of_le (cmK_lt q hq) h1)).1]; exact hk q hq
  · rw [(x.2 16 (by omega)).2]; exact hr q hq
  · rw [(x.2 112 (by omega)).2, (x.2 (113 + i) (by omega)).1]; exact hg i hi
  · rw [(x.2 16 (by omega)).2]; exact hl
theorem twK_lt : ∀ q ∈ twKs, q.1 < 245 := by decide
theorem TW.ext (x : EX E E') (h : TW E) : TW E' := by
  obtain ⟨h1, hk, hr⟩ := h
  have e := x.1
  refine ⟨by omega, fun q hq => ?_, fun q hq => ?_⟩
  · rw [(x.2 q.1 (Nat.lt_of_lt_of_le (twK_lt q hq) h1)).1]; exact hk q hq
  · rw [(x.2 214 (by omega)).2]; exact hr q hq
end EXS
