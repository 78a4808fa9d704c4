/-! CORE 6: Strings that stood before; elements known to be objects -/
theorem Pic.str {G : gT} {n : Nat} {K : kT} {Rf : rT} {V : vT} {s : State} {H : Heap} {o : Nat} (hP : Pic G n K Rf V s H) (ho : o < 16 ∧ o < n) (hk : K o = .inl 99) : va_O "java/lang/String" (al G o) (gA G) s H ∧ va_OF "java/lang/String" "value" "[B" (va_rf ((Rf o 0).map (al G))) (al G o) (gA G) s H ∧ va_OF "java/lang/String" "coder" "B" (.int (V o 1)) (al G o) (gA G) s H := by
  have h := hP.2.2.1 o ho.2
  unfold cellP at h
  rw [if_pos ho.1, hk] at h
  exact h rfl
section QZ
variable {l : Launch} {G : gT} {R : Room} {own nm : String} {code : ByteArray} {maxL : Nat} {ret : Option FieldType} {Z : List Frame → Array Value → State → State → Prop} {pc : Nat} {ls : List (Option aV)} {st : List aV} {n : Nat} {K : kT} {Rf : rT} {V : vT} {ca sa : Nat}
theorem wp_aalds {o len t a : Nat} {x : Int32} (hdg : decode code pc = .ok (.aaload, 1)) (ho : o < n) (hk : K o = .inr (t, len)) (ht : ¬ t < 3) (hin : vp_in x len) (hv : Rf o x.toNatClampNeg = some a) (kk : wp l G R own nm code maxL ret Z (pc + 1) ls (.inr (some a) :: st) n K Rf V ca sa) : wp l G R own nm code maxL ret Z pc ls (.inl x :: .inr (some o) :: st) n K Rf V ca sa :=
  wp_aald hdg ho hk ht hin (by rw [hv]; exact kk)
theorem wp_getSv {ix o : Nat} (hdg : decode code pc = .ok (.getfield ix, 3)) (hlink : Cond.fieldLink own ix "java/lang/String" "value" "[B" ∈ lw_all) (ho : o < 16 ∧ o < n) (hk : K o = .inl 99) (kk : wp l G R own nm code maxL ret Z (pc + 3) ls (.inr (Rf o 0) :: st) n K Rf V ca sa) : wp l G R own nm code maxL ret Z pc ls (.inr (some o) :: st) n K Rf V ca sa := by
  intro p e s m args below meth c H locs A hx hb hr hml hlk hown hnm hts hKK hP hS hl
  obtain ⟨cf, k, i, f, cell, h1, h2, h3, h4, h5, h6⟩ := (hP.str ho hk).2.1
  exact W.getf (v := cv G (.inr (Rf o 0))) hx hb hown (hts _ hlink) h1 h2 h3 h4 h5 rfl rfl hdg (kk p e s m args below meth c H locs A hx hb hr hml hlk hown hnm hts hKK hP hS hl)
theorem wp_getSc {ix o : Nat} (hdg : decode code pc = .ok (.getfield ix, 3)) (hlink : Cond.fieldLink own ix "java/lang/String" "coder" "B" ∈ lw_all) (ho : o < 16 ∧ o < n) (hk : K o = .inl 99) (kk : wp l G R own nm code maxL ret Z (pc + 3) ls (.inl (V o 1) :: st) n K Rf V ca sa) : wp l G R own nm code maxL ret Z pc ls (.inr (some o) :: st) n K Rf V ca sa := by
  intro p e s m args below meth c H locs A hx hb hr hml hlk hown hnm hts hKK hP hS hl
  obtain ⟨cf, k, i, f, cell, h1, h2, h3, h4, h5, h6⟩ := (hP.str ho hk).2.2
  exact W.getf (v := cv G (.inl (V o 1))) hx hb hown (hts _ hlink) h1 h2 h3 h4 h5 rfl rfl hdg (kk p e s m args below meth c H locs A hx hb hr hml hlk hown hnm hts hKK hP hS hl)
theorem wp_getSvs {ix o a : Nat} (hdg : decode code pc = .ok (.getfield ix, 3)) (hlink : Cond.fieldLink own ix "java/lang/String" "value" "[B" ∈ lw_all) (ho : o < 16 ∧ o < n) (hk : K o = .inl 99) (hv : Rf o 0 = some a) (kk : wp l G R own nm code maxL ret Z (pc + 3) ls (.inr (some a) :: st) n K Rf V ca sa) : wp l G R own nm code maxL ret Z pc ls (.inr (some o) :: st) n K Rf V ca sa :=
  wp_getSv hdg hlink ho hk (by rw [hv]; exact kk)
theorem wp_callZg {ix : Nat} {y : MethodName} {by_ : ByteArray} {mL : Nat} {rt : Option FieldType} {d' mc' ms' : Nat} {Q' : Option aV → Nat → kT → rT → vT → Prop} (as : List aV) {b : Nat} (hL : LkV own ix "java/lang/String" y by_ mL rt as.length) (hbn : b < 16 ∧ b < n) (hkb : K b = .inl 99) (hdg : decode code pc = .ok (.invokevirtual ix, 3)) (hok : MOk l G d' y by_ mL rt (.inr (some b) :: as) n K Rf V mc' ms' Q') (hR : (rmQ d' mc' ms').frames + 1 ≤ R.frames ∧ 8 + (mL + 11) + (rmQ d' mc' ms').locals ≤ R.locals) (hroom : ca + mc' ≤ R.cells ∧ sa + ms' ≤ R.slots) (hrest : st.length ≤ 8) (kk : ∀ (r : Option aV) (n' : Nat) (K' : kT) (Rf' : rT) (V' : vT), Q' r n' K' Rf' V' → wp l G R own nm code maxL ret Z (pc + 3) ls (r.toList ++ st) n' K' Rf' V' (ca + mc') (sa + ms')) : wp l G R own nm code maxL ret Z pc ls (as.reverse ++ .inr (some b) :: st) n K Rf V ca sa := by
  intro p e s m args below meth c H locs A hx hb hr hml hlk hown hnm hts hKK hP hS hl
  have e0 : (as.reverse ++ (.inr (some b) : aV) :: st).map (cv G) = (as.map (cv G)).reverse ++ .ref (al G b) :: st.map (cv G) := by simp [cv, va_rf]
  rw [e0]
  obtain ⟨w1, w2, w3, w4, w5, w6⟩ := hL
  obtain ⟨cell, c1, c2, c3, -⟩ := (hP.str hbn hkb).1
  exact W_back hx hb hr hml hlk hown hnm hts hKK hS hl (a := (Value.ref (al G b) :: as.map (cv G)).toArray) (va_runV (C := "java/lang/String") (b := al G b) (As := as.map (cv G)) ⟨hx, hb, hml, hown, hts⟩ hok (cwV as.length hts (lw_V w1 w2 w3 w4 w5) rfl rfl rfl w6 hR) ⟨PcG.blind, ⟨cell, c1, c2, c3⟩, fun U hU hW => wp_pre hKK hP hS U hU hW⟩ rfl (by simp) hl.1 rfl (room_rest hrest) hdg hroom) kk
theorem wq_ZI0 {ix : Nat} {y : MethodName} {by_ : ByteArray} {mL : Nat} {rt : Option FieldType} {d' : Nat} {k : Int32 → vT → Prop} {b : Nat} (hL : LkV own ix "java/lang/String" y by_ mL rt 0) (hbn : b < 16 ∧ b < n) (hkb : K b = .inl 99) (hdg : decode code pc = .ok (.invokevirtual ix, 3)) (hok : MOk l G d' y by_ mL rt [.inr (some b)] n K Rf V 0 0 (QI n K Rf k)) (hR : (rmQ d' 0 0).frames + 1 ≤ R.frames ∧ 8 + (mL + 11) + (rmQ d' 0 0).locals ≤ R.locals) (hroom : ca + 0 ≤ R.cells ∧ sa + 0 ≤ R.slots) (hrest : st.length ≤ 8) (kk : ∀ (x9 : Int32) (V' : vT), k x9 V' → wp l G R own nm code maxL ret Z (pc + 3) ls (.inl x9 :: st) n K Rf V' ca sa) : wp l G R own nm code maxL ret Z pc ls (.inr (some b) :: st) n K Rf V ca sa :=
  wp_callZg [] hL hbn hkb hdg hok hR hroom hrest (fun r n' K' Rf' V' hq => by obtain ⟨x9, rfl, rfl, rfl, rfl, h9⟩ := hq; exact kk x9 V' h9)
theorem wq_ZI1 {ix : Nat} {y : MethodName} {by_ : ByteArray} {mL : Nat} {rt : Option FieldType} {d' : Nat} {k : Int32 → vT → Prop} {x1 : aV} {b : Nat} (hL : LkV own ix "java/lang/String" y by_ mL rt 1) (hbn : b < 16 ∧ b < n) (hkb : K b = .inl 99) (hdg : decode code pc = .ok (.invokevirtual ix, 3)) (hok : MOk l G d' y by_ mL rt [.inr (some b), x1] n K Rf V 0 0 (QI n K Rf k)) (hR : (rmQ d' 0 0).frames + 1 ≤ R.frames ∧ 8 + (mL + 11) + (rmQ d' 0 0).locals ≤ R.locals) (hroom : ca + 0 ≤ R.cells ∧ sa + 0 ≤ R.slots) (hrest : st.length ≤ 8) (kk : ∀ (x9 : Int32) (V' : vT), k x9 V' → wp l G R own nm code maxL ret Z (pc + 3) ls (.inl x9 :: st) n K Rf V' ca sa) : wp l G R own nm code maxL ret Z pc ls (x1 :: .inr (some b) :: st) n K Rf V ca sa :=
  wp_callZg [x1] hL hbn hkb hdg hok hR hroom hrest (fun r n' K' Rf' V' hq => by obtain ⟨x9, rfl, rfl, rfl, rfl, h9⟩ := hq; exact kk x9 V' h9)
theorem wq_ZI2 {ix : Nat} {y : MethodName} {by_ : ByteArray} {mL : Nat} {rt : Option FieldType} {d' : Nat} {k : Int32 → vT → Prop} {x1 x2 : aV} {b : Nat} (hL : LkV own ix "java/lang/String" y by_ mL rt 2) (hbn : b < 16 ∧ b < n) (hkb : K b = .inl 99) (hdg : decode code pc = .ok (.invokevirtual ix, 3)) (hok : MOk l G d' y by_ mL rt [.inr (some b), x1, x2] n K Rf V 0 0 (QI n K Rf k)) (hR : (rmQ d' 0 0).frames + 1 ≤ R.frames ∧ 8 + (mL + 11) + (rmQ d' 0 0).locals ≤ R.locals) (hroom : ca + 0 ≤ R.cells ∧ sa + 0 ≤ R.slots) (hrest : st.length ≤ 8) (kk : ∀ (x9 : Int32) (V' : vT), k x9 V' → wp l G R own nm code maxL ret Z (pc + 3) ls (.inl x9 :: st) n K Rf V' ca sa) : wp l G R own nm code maxL ret Z pc ls (x2 :: x1 :: .inr (some b) :: st) n K Rf V ca sa :=
  wp_callZg [x1, x2] hL hbn hkb hdg hok hR hroom hrest (fun r n' K' Rf' V' hq => by obtain ⟨x9, rfl, rfl, rfl, rfl, h9⟩ := hq; exact kk x9 V' h9)
def mxI (x y : Int32) : Int32 := if x < y then y else x
def mnI (x y : Int32) : Int32 := if y < x then y else x
def abI (x : Int32) : Int32 := if 0 ≤ x then x else 0 - x
theorem wp_mmax {ix : Nat} {x y : Int32} (hdg : decode code pc = .ok (.invokestatic ix, 3)) (h1 : Cond.methodLink own ix Lib.Math.max.name ∈ lw_all) (h2 : Cond.static Lib.Math.max.name ∈ lw_all) (h3 : Cond.initialized "java/lang/Math" ∈ lw_all) (h4 : Cond.code Lib.Math.max.name Lib.Math.max.code 2 (some .int) ∈ lw_all) (hf : 1 ≤ R.frames) (hl9 : st.length + 13 ≤ R.locals) (hc : ca ≤ R.cells) (hs : sa ≤ R.slots) (kk : wp l G R own nm code maxL ret Z (pc + 3) ls (.inl (mxI x y) :: st) n K Rf V ca sa) : wp l G R own nm code maxL ret Z pc ls (.inl y :: .inl x :: st) n K Rf V ca sa := by
  intro p e s m args below meth c H locs A hx hb hr hml hlk hown hnm hts hKK hP hS hl
  have hsum : ((st.map (cv G)).map fun v => v.category).sum = st.length := by
    clear kk hl9
    induction st with
    | nil => rfl
    | cons a t ih => simp only [List.map_cons, List.sum_cons, List.length_cons, cv_cat, ih]; omega
  exact va_mmax hx hb (hml.trans hl.1.symm) hown (hts _ h1) (hts _ h2) (hts _ h3) (hts _ h4) hf (by rw [hsum]; omega) hc hs hdg (kk p e s m args below meth c H locs A hx hb hr hml hlk hown hnm hts hKK hP hS hl)
theorem wp_mmin {ix : Nat} {x y : Int32} (hdg : decode code pc = .ok (.invokestatic ix, 3)) (h1 : Cond.methodLink own ix Lib.Math.min.name ∈ lw_all) (h2 : Cond.static Lib.Math.min.name ∈ lw_all) (h3 : Cond.initialized "java/lang/Math" ∈ lw_all) (h4 : Cond.code Lib.Math.min.name Lib.Math.min.code 2 (some .int) ∈ lw_all) (hf : 1 ≤ R.frames) (hl9 : st.length + 13 ≤ R.locals) (hc : ca ≤ R.cells) (hs : sa ≤ R.slots) (kk : wp l G R own nm code maxL ret Z (pc + 3) ls (.inl (mnI x y) :: st) n K Rf V ca sa) : wp l G R own nm code maxL ret Z pc ls (.inl y :: .inl x :: st) n K Rf V ca sa := by
  intro p e s m args below meth c H locs A hx hb hr hml hlk hown hnm hts hKK hP hS hl
  have hsum : ((st.map (cv G)).map fun v => v.category).sum = st.length := by
    clear kk hl9
    induction st with
    | nil => rfl
    | cons a t ih => simp only [List.map_cons, List.sum_cons, List.length_cons, cv_cat, ih]; omega
  exact va_mmin hx hb (hml.trans hl.1.symm) hown (hts _ h1) (hts _ h2) (hts _ h3) (hts _ h4) hf (by rw [hsum]; omega) hc hs hdg (kk p e s m args below meth c H locs A hx hb hr hml hlk hown hnm hts hKK hP hS hl)
theorem wp_mabs {ix : Nat} {x : Int32} (hdg : decode code pc = .ok (.invokestatic ix, 3)) (h1 : Cond.methodLink own ix Lib.Math.abs.name ∈ lw_all) (h2 : Cond.static Lib.Math.abs.name ∈ lw_all) (h3 : Cond.initialized "java/lang/Math" ∈ lw_all) (h4 : Cond.code Lib.Math.abs.name Lib.Math.abs.code 1 (some .int) ∈ lw_all) (hf : 1 ≤ R.frames) (hl9 : st.length + 13 ≤ R.locals) (hc : ca ≤ R.cells) (hs : sa ≤ R.slots) (kk : wp l G R own nm code maxL ret Z (pc + 3) ls (.inl (abI x) :: st) n K Rf V ca sa) : wp l G R own nm code maxL ret Z pc ls (.inl x :: st) n K Rf V ca sa := by
  intro p e s m args below meth c H locs A hx hb hr hml hlk hown hnm hts hKK hP hS hl
  have hsum : ((st.map (cv G)).map fun v => v.category).sum = st.length := by
    clear kk hl9
    induction st with
    | nil => rfl
    | cons a t ih => simp only [List.map_cons, List.sum_cons, List.length_cons, cv_cat, ih]; omega
  exact va_mabs hx hb (hml.trans hl.1.symm) hown (hts _ h1) (hts _ h2) (hts _ h3) (hts _ h4) hf (by rw [hsum]; omega) hc hs hdg (kk p e s m args below meth c H locs A hx hb hr hml hlk hown hnm hts hKK hP hS hl)
end QZ
