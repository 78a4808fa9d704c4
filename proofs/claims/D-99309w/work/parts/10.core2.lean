/-! CORE 2: the rows of the quiet machine: each out of the kit's own -/
section QM
variable {l : Launch} {G : gT} {R : Room} {own nm : String} {code : ByteArray} {maxL : Nat} {ret : Option FieldType} {Z : List Frame → Array Value → State → State → Prop} {pc : Nat} {ls : List (Option aV)} {st : List aV} {n : Nat} {K : kT} {Rf : rT} {V : vT} {ca sa : Nat}

theorem wp_iload_n {k : Fin 4} {x : Int32} (hdg : decode code pc = .ok (.iload_n k, 1)) (hv : ls[(k : Nat)]? = some (some (.inl x))) (kk : wp l G R own nm code maxL ret Z (pc + 1) ls (.inl x :: st) n K Rf V ca sa) : wp l G R own nm code maxL ret Z pc ls st n K Rf V ca sa := by
  intro p e s m args below meth c H locs A hx hb hr hml hlk hown hnm hts hKK hP hS hl
  exact lv_iload_n hx hb hdg rfl (hl.2.2.2 _ _ hv) (kk p e s m args below meth c H locs A hx hb hr hml hlk hown hnm hts hKK hP hS hl)
theorem wp_iload {k : Nat} {x : Int32} (hdg : decode code pc = .ok (.iload k, 2)) (hv : ls[k]? = some (some (.inl x))) (kk : wp l G R own nm code maxL ret Z (pc + 2) ls (.inl x :: st) n K Rf V ca sa) : wp l G R own nm code maxL ret Z pc ls st n K Rf V ca sa := by
  intro p e s m args below meth c H locs A hx hb hr hml hlk hown hnm hts hKK hP hS hl
  exact lv_iload hx hb hdg (hl.2.2.2 _ _ hv) (kk p e s m args below meth c H locs A hx hb hr hml hlk hown hnm hts hKK hP hS hl)
theorem wp_aload_n {k : Fin 4} {r : Option Nat} (hdg : decode code pc = .ok (.aload_n k, 1)) (hv : ls[(k : Nat)]? = some (some (.inr r))) (kk : wp l G R own nm code maxL ret Z (pc + 1) ls (.inr r :: st) n K Rf V ca sa) : wp l G R own nm code maxL ret Z pc ls st n K Rf V ca sa := by
  intro p e s m args below meth c H locs A hx hb hr hml hlk hown hnm hts hKK hP hS hl
  have hv' := hl.2.2.2 _ _ hv
  have kk' := kk p e s m args below meth c H locs A hx hb hr hml hlk hown hnm hts hKK hP hS hl
  cases r with
  | some a => exact lv_aload_n hx hb hdg rfl hv' kk'
  | none =>
    have hv' : A[((k : Nat))]? = some (.val .null) := hv'
    intro T hT X
    obtain ⟨t, a, b⟩ := kk' T hT X
    refine ⟨t, ?_, b⟩
    jvm_step X.here [X.here.top, hx, hb, hdg, hv', Value.isRef]
    exact a
theorem wp_aload {k : Nat} {r : Option Nat} (hdg : decode code pc = .ok (.aload k, 2)) (hv : ls[k]? = some (some (.inr r))) (kk : wp l G R own nm code maxL ret Z (pc + 2) ls (.inr r :: st) n K Rf V ca sa) : wp l G R own nm code maxL ret Z pc ls st n K Rf V ca sa := by
  intro p e s m args below meth c H locs A hx hb hr hml hlk hown hnm hts hKK hP hS hl
  have hv' := hl.2.2.2 _ _ hv
  have kk' := kk p e s m args below meth c H locs A hx hb hr hml hlk hown hnm hts hKK hP hS hl
  cases r with
  | some a => exact lv_aload hx hb hdg hv' kk'
  | none =>
    have hv' : A[(k)]? = some (.val .null) := hv'
    intro T hT X
    obtain ⟨t, a, b⟩ := kk' T hT X
    refine ⟨t, ?_, b⟩
    jvm_step X.here [X.here.top, hx, hb, hdg, hv', Value.isRef]
    exact a
theorem lsOK.store {A : Array Slot} {i : Nat} (v : aV) (h : lsOK G maxL A ls) (hi : i < maxL) (hil : i < ls.length) : ∃ A', storeLocals A i (cv G v) = some A' ∧ lsOK G maxL A' (ls.set i (some v)) := by
  obtain ⟨h1, h2, h3, h4⟩ := h
  have hcat : ∀ w : aV, (cv G w).category = 1 := fun w => by
    cases w with
    | inl x => rfl
    | inr r => cases r <;> rfl
  have hh : lv_has A maxL ((List.range ls.length).filterMap fun j => (ls[j]?.join).map fun w => (j, cv G w)) := by
    refine ⟨h1, h3, fun q hq => ?_⟩
    obtain ⟨j, -, hj⟩ := List.mem_filterMap.mp hq
    cases hw : ls[j]? with
    | none => simp [hw] at hj
    | some w =>
      cases w with
      | none => simp [hw] at hj
      | some w =>
        simp [hw] at hj
        subst hj
        exact h4 j w hw
  obtain ⟨A', e', h'⟩ := lv_store1 (v := cv G v) hh hi (hcat v)
  refine ⟨A', e', h'.1, by simpa using h2, h'.2.1, fun j w hj => ?_⟩
  by_cases hji : j = i
  · subst hji
    rw [List.getElem?_set_self hil] at hj
    cases hj
    exact h'.2.2 (j, cv G v) List.mem_cons_self
  · rw [List.getElem?_set_ne (Ne.symm hji)] at hj
    refine h'.2.2 (j, cv G w) (List.mem_cons_of_mem _ (List.mem_filter.mpr ⟨List.mem_filterMap.mpr ⟨j, List.mem_range.mpr (List.getElem?_eq_some_iff.mp hj).1, by simp [hj]⟩, ?_⟩))
    simp [hji, hcat w]
theorem wp_istore_n {k : Fin 4} {x : Int32} (hdg : decode code pc = .ok (.istore_n k, 1)) (hi : (k : Nat) < maxL) (hil : (k : Nat) < ls.length) (kk : wp l G R own nm code maxL ret Z (pc + 1) (ls.set (k : Nat) (some (.inl x : aV))) st n K Rf V ca sa) : wp l G R own nm code maxL ret Z pc ls ((.inl x : aV) :: st) n K Rf V ca sa := by
  intro p e s m args below meth c H locs A hx hb hr hml hlk hown hnm hts hKK hP hS hl
  obtain ⟨A', e', h'⟩ := lsOK.store (.inl x : aV) hl hi hil
  intro T hT X
  have e' : storeLocals A (k : Nat) (.int x) = some A' := e'
  obtain ⟨t, a, b⟩ := kk p e s m args below meth c H locs A' hx hb hr hml hlk hown hnm hts hKK hP hS h' T hT X
  refine ⟨t, ?_, b⟩
  show Steps p.tables e below (T.setTop (F0 m pc A (.int x :: st.map (cv G)))) t
  jvm_step X.here [X.here.top, ↓top_set X.here.top, hx, hb, hdg, e']
  exact a
theorem wp_istore {k : Nat} {x : Int32} (hdg : decode code pc = .ok (.istore k, 2)) (hi : k < maxL) (hil : k < ls.length) (kk : wp l G R own nm code maxL ret Z (pc + 2) (ls.set k (some (.inl x : aV))) st n K Rf V ca sa) : wp l G R own nm code maxL ret Z pc ls ((.inl x : aV) :: st) n K Rf V ca sa := by
  intro p e s m args below meth c H locs A hx hb hr hml hlk hown hnm hts hKK hP hS hl
  obtain ⟨A', e', h'⟩ := lsOK.store (.inl x : aV) hl hi hil
  intro T hT X
  have e' : storeLocals A k (.int x) = some A' := e'
  obtain ⟨t, a, b⟩ := kk p e s m args below meth c H locs A' hx hb hr hml hlk hown hnm hts hKK hP hS h' T hT X
  refine ⟨t, ?_, b⟩
  show Steps p.tables e below (T.setTop (F0 m pc A (.int x :: st.map (cv G)))) t
  jvm_step X.here [X.here.top, ↓top_set X.here.top, hx, hb, hdg, e']
  exact a
theorem wp_astore_n {k : Fin 4} {r : Option Nat} (hdg : decode code pc = .ok (.astore_n k, 1)) (hi : (k : Nat) < maxL) (hil : (k : Nat) < ls.length) (kk : wp l G R own nm code maxL ret Z (pc + 1) (ls.set (k : Nat) (some (.inr r : aV))) st n K Rf V ca sa) : wp l G R own nm code maxL ret Z pc ls ((.inr r : aV) :: st) n K Rf V ca sa := by
  intro p e s m args below meth c H locs A hx hb hr hml hlk hown hnm hts hKK hP hS hl
  obtain ⟨A', e', h'⟩ := lsOK.store (.inr r : aV) hl hi hil
  intro T hT X
  obtain ⟨t, a, b⟩ := kk p e s m args below meth c H locs A' hx hb hr hml hlk hown hnm hts hKK hP hS h' T hT X
  refine ⟨t, ?_, b⟩
  cases r with
  | some q =>
    have e' : storeLocals A (k : Nat) (.ref (al G q)) = some A' := e'
    show Steps p.tables e below (T.setTop (F0 m pc A (.ref (al G q) :: st.map (cv G)))) t
    jvm_step X.here [X.here.top, ↓top_set X.here.top, hx, hb, hdg, e', Value.isRef]
    exact a
  | none =>
    have e' : storeLocals A (k : Nat) .null = some A' := e'
    show Steps p.tables e below (T.setTop (F0 m pc A (.null :: st.map (cv G)))) t
    jvm_step X.here [X.here.top, ↓top_set X.here.top, hx, hb, hdg, e', Value.isRef]
    exact a
theorem wp_astore {k : Nat} {r : Option Nat} (hdg : decode code pc = .ok (.astore k, 2)) (hi : k < maxL) (hil : k < ls.length) (kk : wp l G R own nm code maxL ret Z (pc + 2) (ls.set k (some (.inr r : aV))) st n K Rf V ca sa) : wp l G R own nm code maxL ret Z pc ls ((.inr r : aV) :: st) n K Rf V ca sa := by
  intro p e s m args below meth c H locs A hx hb hr hml hlk hown hnm hts hKK hP hS hl
  obtain ⟨A', e', h'⟩ := lsOK.store (.inr r : aV) hl hi hil
  intro T hT X
  obtain ⟨t, a, b⟩ := kk p e s m args below meth c H locs A' hx hb hr hml hlk hown hnm hts hKK hP hS h' T hT X
  refine ⟨t, ?_, b⟩
  cases r with
  | some q =>
    have e' : storeLocals A k (.ref (al G q)) = some A' := e'
    show Steps p.tables e below (T.setTop (F0 m pc A (.ref (al G q) :: st.map (cv G)))) t
    jvm_step X.here [X.here.top, ↓top_set X.here.top, hx, hb, hdg, e', Value.isRef]
    exact a
  | none =>
    have e' : storeLocals A k .null = some A' := e'
    show Steps p.tables e below (T.setTop (F0 m pc A (.null :: st.map (cv G)))) t
    jvm_step X.here [X.here.top, ↓top_set X.here.top, hx, hb, hdg, e', Value.isRef]
    exact a
theorem wp_iinc {i : Nat} {z : Int} {x y : Int32} (c9 : Int32) (hdg : decode code pc = .ok (.iinc i z, 3)) (hv : ls[i]? = some (some (.inl x))) (hc : Int32.ofInt z = c9) (hy : x + c9 = y) (hi : i < maxL) (hil : i < ls.length) (kk : wp l G R own nm code maxL ret Z (pc + 3) (ls.set i (some (.inl y))) st n K Rf V ca sa) : wp l G R own nm code maxL ret Z pc ls st n K Rf V ca sa := by
  intro p e s m args below meth c H locs A hx hb hr hml hlk hown hnm hts hKK hP hS hl
  subst hc
  subst hy
  obtain ⟨A', e', h'⟩ := lsOK.store (.inl (x + Int32.ofInt z) : aV) hl hi hil
  have e' : storeLocals A i (.int (x + Int32.ofInt z)) = some A' := e'
  have hv' : A[i]? = some (.val (.int x)) := hl.2.2.2 _ _ hv
  intro T hT X
  obtain ⟨t, a, b⟩ := kk p e s m args below meth c H locs A' hx hb hr hml hlk hown hnm hts hKK hP hS h' T hT X
  refine ⟨t, ?_, b⟩
  jvm_step X.here [X.here.top, ↓top_set X.here.top, hx, hb, hdg, hv', e']
  exact a
theorem wp_iconst {z : Int} {v : Int32} (hdg : decode code pc = .ok (.iconst z, 1)) (hv : Int32.ofInt z = v) (kk : wp l G R own nm code maxL ret Z (pc + 1) ls (.inl v :: st) n K Rf V ca sa) : wp l G R own nm code maxL ret Z pc ls st n K Rf V ca sa := by
  intro p e s m args below meth c H locs A hx hb hr hml hlk hown hnm hts hKK hP hS hl
  exact lv_iconst hx hb hdg hv (kk p e s m args below meth c H locs A hx hb hr hml hlk hown hnm hts hKK hP hS hl)
theorem wp_bipush {z : Int} {v : Int32} (hdg : decode code pc = .ok (.bipush z, 2)) (hv : (Int8.ofInt z).toInt32 = v) (kk : wp l G R own nm code maxL ret Z (pc + 2) ls (.inl v :: st) n K Rf V ca sa) : wp l G R own nm code maxL ret Z pc ls st n K Rf V ca sa := by
  intro p e s m args below meth c H locs A hx hb hr hml hlk hown hnm hts hKK hP hS hl
  exact lv_bipush hx hb hdg hv (kk p e s m args below meth c H locs A hx hb hr hml hlk hown hnm hts hKK hP hS hl)
theorem wp_sipush {z : Int} {v : Int32} (hdg : decode code pc = .ok (.sipush z, 3)) (hv : (Int16.ofInt z).toInt32 = v) (kk : wp l G R own nm code maxL ret Z (pc + 3) ls (.inl v :: st) n K Rf V ca sa) : wp l G R own nm code maxL ret Z pc ls st n K Rf V ca sa := by
  intro p e s m args below meth c H locs A hx hb hr hml hlk hown hnm hts hKK hP hS hl
  exact lv_sipush hx hb hdg hv (kk p e s m args below meth c H locs A hx hb hr hml hlk hown hnm hts hKK hP hS hl)
theorem wp_ldc {ix : Nat} {v : Int32} (hdg : decode code pc = .ok (.ldc ix, 2)) (hq : Cond.constant own ix v ∈ lw_all) (kk : wp l G R own nm code maxL ret Z (pc + 2) ls (.inl v :: st) n K Rf V ca sa) : wp l G R own nm code maxL ret Z pc ls st n K Rf V ca sa := by
  intro p e s m args below meth c H locs A hx hb hr hml hlk hown hnm hts hKK hP hS hl
  exact lv_ldc hx hb hown (hts _ hq) hdg (kk p e s m args below meth c H locs A hx hb hr hml hlk hown hnm hts hKK hP hS hl)
theorem wp_ldcw {ix : Nat} {v : Int32} (hdg : decode code pc = .ok (.ldc_w ix, 3)) (hq : Cond.constant own ix v ∈ lw_all) (kk : wp l G R own nm code maxL ret Z (pc + 3) ls (.inl v :: st) n K Rf V ca sa) : wp l G R own nm code maxL ret Z pc ls st n K Rf V ca sa := by
  intro p e s m args below meth c H locs A hx hb hr hml hlk hown hnm hts hKK hP hS hl
  exact lv_ldcw hx hb hown (hts _ hq) hdg (kk p e s m args below meth c H locs A hx hb hr hml hlk hown hnm hts hKK hP hS hl)
theorem wp_null (hdg : decode code pc = .ok (.aconst_null, 1)) (kk : wp l G R own nm code maxL ret Z (pc + 1) ls (.inr none :: st) n K Rf V ca sa) : wp l G R own nm code maxL ret Z pc ls st n K Rf V ca sa := by
  intro p e s m args below meth c H locs A hx hb hr hml hlk hown hnm hts hKK hP hS hl
  exact lv_null hx hb hdg (kk p e s m args below meth c H locs A hx hb hr hml hlk hown hnm hts hKK hP hS hl)
theorem wp_ldcS {ix i : Nat} {tx : String} (hdg : decode code pc = .ok (.ldc ix, 2)) (hR : ∀ s, KKs G s → vk_R own ix tx (al G i) s) (kk : wp l G R own nm code maxL ret Z (pc + 2) ls (.inr (some i) :: st) n K Rf V ca sa) : wp l G R own nm code maxL ret Z pc ls st n K Rf V ca sa := by
  intro p e s m args below meth c H locs A hx hb hr hml hlk hown hnm hts hKK hP hS hl
  exact va_ldcS hx hb hown (hR s hKK) hdg (kk p e s m args below meth c H locs A hx hb hr hml hlk hown hnm hts hKK hP hS hl)
theorem wp_iadd {x y : Int32} (hdg : decode code pc = .ok (.iadd, 1)) (kk : wp l G R own nm code maxL ret Z (pc + 1) ls (.inl (x + y) :: st) n K Rf V ca sa) : wp l G R own nm code maxL ret Z pc ls (.inl y :: .inl x :: st) n K Rf V ca sa := by
  intro p e s m args below meth c H locs A hx hb hr hml hlk hown hnm hts hKK hP hS hl
  exact lv_iadd hx hb hdg (kk p e s m args below meth c H locs A hx hb hr hml hlk hown hnm hts hKK hP hS hl)
theorem wp_isub {x y : Int32} (hdg : decode code pc = .ok (.isub, 1)) (kk : wp l G R own nm code maxL ret Z (pc + 1) ls (.inl (x - y) :: st) n K Rf V ca sa) : wp l G R own nm code maxL ret Z pc ls (.inl y :: .inl x :: st) n K Rf V ca sa := by
  intro p e s m args below meth c H locs A hx hb hr hml hlk hown hnm hts hKK hP hS hl
  exact lv_isub hx hb hdg (kk p e s m args below meth c H locs A hx hb hr hml hlk hown hnm hts hKK hP hS hl)
theorem wp_imul {x y : Int32} (hdg : decode code pc = .ok (.imul, 1)) (kk : wp l G R own nm code maxL ret Z (pc + 1) ls (.inl (x * y) :: st) n K Rf V ca sa) : wp l G R own nm code maxL ret Z pc ls (.inl y :: .inl x :: st) n K Rf V ca sa := by
  intro p e s m args below meth c H locs A hx hb hr hml hlk hown hnm hts hKK hP hS hl
  exact lv_imul hx hb hdg (kk p e s m args below meth c H locs A hx hb hr hml hlk hown hnm hts hKK hP hS hl)
theorem wp_iand {x y : Int32} (hdg : decode code pc = .ok (.iand, 1)) (kk : wp l G R own nm code maxL ret Z (pc + 1) ls (.inl (x &&& y) :: st) n K Rf V ca sa) : wp l G R own nm code maxL ret Z pc ls (.inl y :: .inl x :: st) n K Rf V ca sa := by
  intro p e s m args below meth c H locs A hx hb hr hml hlk hown hnm hts hKK hP hS hl
  exact lv_iand hx hb hdg (kk p e s m args below meth c H locs A hx hb hr hml hlk hown hnm hts hKK hP hS hl)
theorem wp_ior {x y : Int32} (hdg : decode code pc = .ok (.ior, 1)) (kk : wp l G R own nm code maxL ret Z (pc + 1) ls (.inl (x ||| y) :: st) n K Rf V ca sa) : wp l G R own nm code maxL ret Z pc ls (.inl y :: .inl x :: st) n K Rf V ca sa := by
  intro p e s m args below meth c H locs A hx hb hr hml hlk hown hnm hts hKK hP hS hl
  exact lv_ior hx hb hdg (kk p e s m args below meth c H locs A hx hb hr hml hlk hown hnm hts hKK hP hS hl)
theorem wp_ixor {x y : Int32} (hdg : decode code pc = .ok (.ixor, 1)) (kk : wp l G R own nm code maxL ret Z (pc + 1) ls (.inl (x ^^^ y) :: st) n K Rf V ca sa) : wp l G R own nm code maxL ret Z pc ls (.inl y :: .inl x :: st) n K Rf V ca sa := by
  intro p e s m args below meth c H locs A hx hb hr hml hlk hown hnm hts hKK hP hS hl
  exact lv_ixor hx hb hdg (kk p e s m args below meth c H locs A hx hb hr hml hlk hown hnm hts hKK hP hS hl)
theorem wp_ishl {x y : Int32} (hdg : decode code pc = .ok (.ishl, 1)) (kk : wp l G R own nm code maxL ret Z (pc + 1) ls (.inl (x <<< (y &&& 31)) :: st) n K Rf V ca sa) : wp l G R own nm code maxL ret Z pc ls (.inl y :: .inl x :: st) n K Rf V ca sa := by
  intro p e s m args below meth c H locs A hx hb hr hml hlk hown hnm hts hKK hP hS hl
  exact lv_ishl hx hb hdg (kk p e s m args below meth c H locs A hx hb hr hml hlk hown hnm hts hKK hP hS hl)
theorem wp_ishr {x y : Int32} (hdg : decode code pc = .ok (.ishr, 1)) (kk : wp l G R own nm code maxL ret Z (pc + 1) ls (.inl (x >>> (y &&& 31)) :: st) n K Rf V ca sa) : wp l G R own nm code maxL ret Z pc ls (.inl y :: .inl x :: st) n K Rf V ca sa := by
  intro p e s m args below meth c H locs A hx hb hr hml hlk hown hnm hts hKK hP hS hl
  exact lv_ishr hx hb hdg (kk p e s m args below meth c H locs A hx hb hr hml hlk hown hnm hts hKK hP hS hl)
theorem wp_idiv {x y : Int32} (hdg : decode code pc = .ok (.idiv, 1)) (hne : ¬ y = 0) (kk : wp l G R own nm code maxL ret Z (pc + 1) ls (.inl (x / y) :: st) n K Rf V ca sa) : wp l G R own nm code maxL ret Z pc ls (.inl y :: .inl x :: st) n K Rf V ca sa := by
  intro p e s m args below meth c H locs A hx hb hr hml hlk hown hnm hts hKK hP hS hl
  exact lv_idiv hx hb hdg hne (kk p e s m args below meth c H locs A hx hb hr hml hlk hown hnm hts hKK hP hS hl)
theorem wp_irem {x y : Int32} (hdg : decode code pc = .ok (.irem, 1)) (hne : ¬ y = 0) (kk : wp l G R own nm code maxL ret Z (pc + 1) ls (.inl (x - x / y * y) :: st) n K Rf V ca sa) : wp l G R own nm code maxL ret Z pc ls (.inl y :: .inl x :: st) n K Rf V ca sa := by
  intro p e s m args below meth c H locs A hx hb hr hml hlk hown hnm hts hKK hP hS hl
  exact lv_irem hx hb hdg hne (kk p e s m args below meth c H locs A hx hb hr hml hlk hown hnm hts hKK hP hS hl)
theorem wp_iushr {x y : Int32} (hdg : decode code pc = .ok (.iushr, 1)) (kk : wp l G R own nm code maxL ret Z (pc + 1) ls (.inl ((x.toUInt32 >>> (y.toUInt32 &&& Int32.toUInt32 31)).toInt32) :: st) n K Rf V ca sa) : wp l G R own nm code maxL ret Z pc ls (.inl y :: .inl x :: st) n K Rf V ca sa := by
  intro p e s m args below meth c H locs A hx hb hr hml hlk hown hnm hts hKK hP hS hl
  exact lv_iushr hx hb hdg rfl (kk p e s m args below meth c H locs A hx hb hr hml hlk hown hnm hts hKK hP hS hl)
theorem wp_ineg {x : Int32} (hdg : decode code pc = .ok (.ineg, 1)) (kk : wp l G R own nm code maxL ret Z (pc + 1) ls (.inl (-x) :: st) n K Rf V ca sa) : wp l G R own nm code maxL ret Z pc ls (.inl x :: st) n K Rf V ca sa := by
  intro p e s m args below meth c H locs A hx hb hr hml hlk hown hnm hts hKK hP hS hl
  exact lv_ineg hx hb hdg (kk p e s m args below meth c H locs A hx hb hr hml hlk hown hnm hts hKK hP hS hl)
theorem wp_i2b {x : Int32} (hdg : decode code pc = .ok (.i2b, 1)) (kk : wp l G R own nm code maxL ret Z (pc + 1) ls (.inl (x.toInt8.toInt32) :: st) n K Rf V ca sa) : wp l G R own nm code maxL ret Z pc ls (.inl x :: st) n K Rf V ca sa := by
  intro p e s m args below meth c H locs A hx hb hr hml hlk hown hnm hts hKK hP hS hl
  exact lv_i2b hx hb hdg rfl (kk p e s m args below meth c H locs A hx hb hr hml hlk hown hnm hts hKK hP hS hl)
theorem wp_i2c {x : Int32} (hdg : decode code pc = .ok (.i2c, 1)) (kk : wp l G R own nm code maxL ret Z (pc + 1) ls (.inl ((x.toUInt32 % 65536).toInt32) :: st) n K Rf V ca sa) : wp l G R own nm code maxL ret Z pc ls (.inl x :: st) n K Rf V ca sa := by
  intro p e s m args below meth c H locs A hx hb hr hml hlk hown hnm hts hKK hP hS hl
  exact lv_i2c hx hb hdg rfl (kk p e s m args below meth c H locs A hx hb hr hml hlk hown hnm hts hKK hP hS hl)
theorem cv_cat (G : gT) (w : aV) : (cv G w).category = 1 := by
  cases w with
  | inl x => rfl
  | inr r => cases r <;> rfl
theorem wp_dup {v : aV} (hdg : decode code pc = .ok (.dup, 1)) (kk : wp l G R own nm code maxL ret Z (pc + 1) ls (v :: v :: st) n K Rf V ca sa) : wp l G R own nm code maxL ret Z pc ls (v :: st) n K Rf V ca sa := by
  intro p e s m args below meth c H locs A hx hb hr hml hlk hown hnm hts hKK hP hS hl
  exact lv_dup hx hb hdg (cv_cat G v) (kk p e s m args below meth c H locs A hx hb hr hml hlk hown hnm hts hKK hP hS hl)
theorem wp_pop {v : aV} (hdg : decode code pc = .ok (.pop, 1)) (kk : wp l G R own nm code maxL ret Z (pc + 1) ls st n K Rf V ca sa) : wp l G R own nm code maxL ret Z pc ls (v :: st) n K Rf V ca sa := by
  intro p e s m args below meth c H locs A hx hb hr hml hlk hown hnm hts hKK hP hS hl
  exact lv_pop hx hb hdg (cv_cat G v) (kk p e s m args below meth c H locs A hx hb hr hml hlk hown hnm hts hKK hP hS hl)
theorem wp_goto {off : Int} (tgt : Nat) (hdg : decode code pc = .ok (.goto off, 3)) (ht : (pc : Int) + off = (tgt : Int)) (kk : wp l G R own nm code maxL ret Z tgt ls st n K Rf V ca sa) : wp l G R own nm code maxL ret Z pc ls st n K Rf V ca sa := by
  intro p e s m args below meth c H locs A hx hb hr hml hlk hown hnm hts hKK hP hS hl
  exact lv_goto hx hb hdg ht (kk p e s m args below meth c H locs A hx hb hr hml hlk hown hnm hts hKK hP hS hl)
theorem wp_icmp_eq {x y : Int32} {off : Int} (tgt : Nat) (hdg : decode code pc = .ok (.if_icmp .eq off, 3)) (ht : (pc : Int) + off = (tgt : Int)) (kt : x = y → wp l G R own nm code maxL ret Z tgt ls st n K Rf V ca sa) (kf : ¬ x = y → wp l G R own nm code maxL ret Z (pc + 3) ls st n K Rf V ca sa) : wp l G R own nm code maxL ret Z pc ls (.inl y :: .inl x :: st) n K Rf V ca sa := by
  intro p e s m args below meth c H locs A hx hb hr hml hlk hown hnm hts hKK hP hS hl
  exact lv_icmp_eq hx hb hdg ht (fun q => kt q p e s m args below meth c H locs A hx hb hr hml hlk hown hnm hts hKK hP hS hl) (fun q => kf q p e s m args below meth c H locs A hx hb hr hml hlk hown hnm hts hKK hP hS hl)
theorem wp_icmp_ne {x y : Int32} {off : Int} (tgt : Nat) (hdg : decode code pc = .ok (.if_icmp .ne off, 3)) (ht : (pc : Int) + off = (tgt : Int)) (kt : ¬ x = y → wp l G R own nm code maxL ret Z tgt ls st n K Rf V ca sa) (kf : x = y → wp l G R own nm code maxL ret Z (pc + 3) ls st n K Rf V ca sa) : wp l G R own nm code maxL ret Z pc ls (.inl y :: .inl x :: st) n K Rf V ca sa := by
  intro p e s m args below meth c H locs A hx hb hr hml hlk hown hnm hts hKK hP hS hl
  exact lv_icmp_ne hx hb hdg ht (fun q => kt q p e s m args below meth c H locs A hx hb hr hml hlk hown hnm hts hKK hP hS hl) (fun q => kf q p e s m args below meth c H locs A hx hb hr hml hlk hown hnm hts hKK hP hS hl)
theorem wp_icmp_lt {x y : Int32} {off : Int} (tgt : Nat) (hdg : decode code pc = .ok (.if_icmp .lt off, 3)) (ht : (pc : Int) + off = (tgt : Int)) (kt : x < y → wp l G R own nm code maxL ret Z tgt ls st n K Rf V ca sa) (kf : ¬ x < y → wp l G R own nm code maxL ret Z (pc + 3) ls st n K Rf V ca sa) : wp l G R own nm code maxL ret Z pc ls (.inl y :: .inl x :: st) n K Rf V ca sa := by
  intro p e s m args below meth c H locs A hx hb hr hml hlk hown hnm hts hKK hP hS hl
  exact lv_icmp_lt hx hb hdg ht (fun q => kt q p e s m args below meth c H locs A hx hb hr hml hlk hown hnm hts hKK hP hS hl) (fun q => kf q p e s m args below meth c H locs A hx hb hr hml hlk hown hnm hts hKK hP hS hl)
theorem wp_icmp_ge {x y : Int32} {off : Int} (tgt : Nat) (hdg : decode code pc = .ok (.if_icmp .ge off, 3)) (ht : (pc : Int) + off = (tgt : Int)) (kt : y ≤ x → wp l G R own nm code maxL ret Z tgt ls st n K Rf V ca sa) (kf : ¬ y ≤ x → wp l G R own nm code maxL ret Z (pc + 3) ls st n K Rf V ca sa) : wp l G R own nm code maxL ret Z pc ls (.inl y :: .inl x :: st) n K Rf V ca sa := by
  intro p e s m args below meth c H locs A hx hb hr hml hlk hown hnm hts hKK hP hS hl
  exact lv_icmp_ge hx hb hdg ht (fun q => kt q p e s m args below meth c H locs A hx hb hr hml hlk hown hnm hts hKK hP hS hl) (fun q => kf q p e s m args below meth c H locs A hx hb hr hml hlk hown hnm hts hKK hP hS hl)
theorem wp_icmp_gt {x y : Int32} {off : Int} (tgt : Nat) (hdg : decode code pc = .ok (.if_icmp .gt off, 3)) (ht : (pc : Int) + off = (tgt : Int)) (kt : y < x → wp l G R own nm code maxL ret Z tgt ls st n K Rf V ca sa) (kf : ¬ y < x → wp l G R own nm code maxL ret Z (pc + 3) ls st n K Rf V ca sa) : wp l G R own nm code maxL ret Z pc ls (.inl y :: .inl x :: st) n K Rf V ca sa := by
  intro p e s m args below meth c H locs A hx hb hr hml hlk hown hnm hts hKK hP hS hl
  exact lv_icmp_gt hx hb hdg ht (fun q => kt q p e s m args below meth c H locs A hx hb hr hml hlk hown hnm hts hKK hP hS hl) (fun q => kf q p e s m args below meth c H locs A hx hb hr hml hlk hown hnm hts hKK hP hS hl)
theorem wp_icmp_le {x y : Int32} {off : Int} (tgt : Nat) (hdg : decode code pc = .ok (.if_icmp .le off, 3)) (ht : (pc : Int) + off = (tgt : Int)) (kt : x ≤ y → wp l G R own nm code maxL ret Z tgt ls st n K Rf V ca sa) (kf : ¬ x ≤ y → wp l G R own nm code maxL ret Z (pc + 3) ls st n K Rf V ca sa) : wp l G R own nm code maxL ret Z pc ls (.inl y :: .inl x :: st) n K Rf V ca sa := by
  intro p e s m args below meth c H locs A hx hb hr hml hlk hown hnm hts hKK hP hS hl
  exact lv_icmp_le hx hb hdg ht (fun q => kt q p e s m args below meth c H locs A hx hb hr hml hlk hown hnm hts hKK hP hS hl) (fun q => kf q p e s m args below meth c H locs A hx hb hr hml hlk hown hnm hts hKK hP hS hl)
theorem wp_if_eq {x : Int32} {off : Int} (tgt : Nat) (hdg : decode code pc = .ok (.ifCond .eq off, 3)) (ht : (pc : Int) + off = (tgt : Int)) (kt : x = 0 → wp l G R own nm code maxL ret Z tgt ls st n K Rf V ca sa) (kf : ¬ x = 0 → wp l G R own nm code maxL ret Z (pc + 3) ls st n K Rf V ca sa) : wp l G R own nm code maxL ret Z pc ls (.inl x :: st) n K Rf V ca sa := by
  intro p e s m args below meth c H locs A hx hb hr hml hlk hown hnm hts hKK hP hS hl
  exact lv_if_eq hx hb hdg ht (fun q => kt q p e s m args below meth c H locs A hx hb hr hml hlk hown hnm hts hKK hP hS hl) (fun q => kf q p e s m args below meth c H locs A hx hb hr hml hlk hown hnm hts hKK hP hS hl)
theorem wp_if_ne {x : Int32} {off : Int} (tgt : Nat) (hdg : decode code pc = .ok (.ifCond .ne off, 3)) (ht : (pc : Int) + off = (tgt : Int)) (kt : ¬ x = 0 → wp l G R own nm code maxL ret Z tgt ls st n K Rf V ca sa) (kf : x = 0 → wp l G R own nm code maxL ret Z (pc + 3) ls st n K Rf V ca sa) : wp l G R own nm code maxL ret Z pc ls (.inl x :: st) n K Rf V ca sa := by
  intro p e s m args below meth c H locs A hx hb hr hml hlk hown hnm hts hKK hP hS hl
  exact lv_if_ne hx hb hdg ht (fun q => kt q p e s m args below meth c H locs A hx hb hr hml hlk hown hnm hts hKK hP hS hl) (fun q => kf q p e s m args below meth c H locs A hx hb hr hml hlk hown hnm hts hKK hP hS hl)
theorem wp_if_lt {x : Int32} {off : Int} (tgt : Nat) (hdg : decode code pc = .ok (.ifCond .lt off, 3)) (ht : (pc : Int) + off = (tgt : Int)) (kt : x < 0 → wp l G R own nm code maxL ret Z tgt ls st n K Rf V ca sa) (kf : ¬ x < 0 → wp l G R own nm code maxL ret Z (pc + 3) ls st n K Rf V ca sa) : wp l G R own nm code maxL ret Z pc ls (.inl x :: st) n K Rf V ca sa := by
  intro p e s m args below meth c H locs A hx hb hr hml hlk hown hnm hts hKK hP hS hl
  exact lv_if_lt hx hb hdg ht (fun q => kt q p e s m args below meth c H locs A hx hb hr hml hlk hown hnm hts hKK hP hS hl) (fun q => kf q p e s m args below meth c H locs A hx hb hr hml hlk hown hnm hts hKK hP hS hl)
theorem wp_if_ge {x : Int32} {off : Int} (tgt : Nat) (hdg : decode code pc = .ok (.ifCond .ge off, 3)) (ht : (pc : Int) + off = (tgt : Int)) (kt : 0 ≤ x → wp l G R own nm code maxL ret Z tgt ls st n K Rf V ca sa) (kf : ¬ 0 ≤ x → wp l G R own nm code maxL ret Z (pc + 3) ls st n K Rf V ca sa) : wp l G R own nm code maxL ret Z pc ls (.inl x :: st) n K Rf V ca sa := by
  intro p e s m args below meth c H locs A hx hb hr hml hlk hown hnm hts hKK hP hS hl
  exact lv_if_ge hx hb hdg ht (fun q => kt q p e s m args below meth c H locs A hx hb hr hml hlk hown hnm hts hKK hP hS hl) (fun q => kf q p e s m args below meth c H locs A hx hb hr hml hlk hown hnm hts hKK hP hS hl)
theorem wp_if_gt {x : Int32} {off : Int} (tgt : Nat) (hdg : decode code pc = .ok (.ifCond .gt off, 3)) (ht : (pc : Int) + off = (tgt : Int)) (kt : 0 < x → wp l G R own nm code maxL ret Z tgt ls st n K Rf V ca sa) (kf : ¬ 0 < x → wp l G R own nm code maxL ret Z (pc + 3) ls st n K Rf V ca sa) : wp l G R own nm code maxL ret Z pc ls (.inl x :: st) n K Rf V ca sa := by
  intro p e s m args below meth c H locs A hx hb hr hml hlk hown hnm hts hKK hP hS hl
  exact lv_if_gt hx hb hdg ht (fun q => kt q p e s m args below meth c H locs A hx hb hr hml hlk hown hnm hts hKK hP hS hl) (fun q => kf q p e s m args below meth c H locs A hx hb hr hml hlk hown hnm hts hKK hP hS hl)
theorem wp_if_le {x : Int32} {off : Int} (tgt : Nat) (hdg : decode code pc = .ok (.ifCond .le off, 3)) (ht : (pc : Int) + off = (tgt : Int)) (kt : x ≤ 0 → wp l G R own nm code maxL ret Z tgt ls st n K Rf V ca sa) (kf : ¬ x ≤ 0 → wp l G R own nm code maxL ret Z (pc + 3) ls st n K Rf V ca sa) : wp l G R own nm code maxL ret Z pc ls (.inl x :: st) n K Rf V ca sa := by
  intro p e s m args below meth c H locs A hx hb hr hml hlk hown hnm hts hKK hP hS hl
  exact lv_if_le hx hb hdg ht (fun q => kt q p e s m args below meth c H locs A hx hb hr hml hlk hown hnm hts hKK hP hS hl) (fun q => kf q p e s m args below meth c H locs A hx hb hr hml hlk hown hnm hts hKK hP hS hl)
theorem wp_ifnull {r : Option Nat} {off : Int} (tgt : Nat) (hdg : decode code pc = .ok (.ifnull off, 3)) (ht : (pc : Int) + off = (tgt : Int)) (kt : r = none → wp l G R own nm code maxL ret Z tgt ls st n K Rf V ca sa) (kf : ∀ a, r = some a → wp l G R own nm code maxL ret Z (pc + 3) ls st n K Rf V ca sa) : wp l G R own nm code maxL ret Z pc ls (.inr r :: st) n K Rf V ca sa := by
  intro p e s m args below meth c H locs A hx hb hr hml hlk hown hnm hts hKK hP hS hl
  cases r with
  | none => exact lv_ifnullN hx hb hdg ht (kt rfl p e s m args below meth c H locs A hx hb hr hml hlk hown hnm hts hKK hP hS hl)
  | some a => exact lv_ifnull hx hb hdg (kf a rfl p e s m args below meth c H locs A hx hb hr hml hlk hown hnm hts hKK hP hS hl)
theorem wp_ifnonnull {r : Option Nat} {off : Int} (tgt : Nat) (hdg : decode code pc = .ok (.ifnonnull off, 3)) (ht : (pc : Int) + off = (tgt : Int)) (kt : ∀ a, r = some a → wp l G R own nm code maxL ret Z tgt ls st n K Rf V ca sa) (kf : r = none → wp l G R own nm code maxL ret Z (pc + 3) ls st n K Rf V ca sa) : wp l G R own nm code maxL ret Z pc ls (.inr r :: st) n K Rf V ca sa := by
  intro p e s m args below meth c H locs A hx hb hr hml hlk hown hnm hts hKK hP hS hl
  cases r with
  | none => exact lv_ifnonnullN hx hb hdg (kf rfl p e s m args below meth c H locs A hx hb hr hml hlk hown hnm hts hKK hP hS hl)
  | some a => exact lv_ifnonnull hx hb hdg ht (kt a rfl p e s m args below meth c H locs A hx hb hr hml hlk hown hnm hts hKK hP hS hl)
theorem wp_tableIn {dflt lo hi : Int} {offs : Array Int} {len : Nat} {x : Int32} {off : Int} (tgt : Nat) (hdg : decode code pc = .ok (.tableswitch dflt lo hi offs, len)) (h1 : ¬ x.toInt < lo) (h2 : ¬ hi < x.toInt) (ho : offs[(x.toInt - lo).toNat]? = some off) (ht : (pc : Int) + off = (tgt : Int)) (kk : wp l G R own nm code maxL ret Z tgt ls st n K Rf V ca sa) : wp l G R own nm code maxL ret Z pc ls (.inl x :: st) n K Rf V ca sa := by
  intro p e s m args below meth c H locs A hx hb hr hml hlk hown hnm hts hKK hP hS hl
  exact lv_tableIn hx hb hdg h1 h2 ho ht (kk p e s m args below meth c H locs A hx hb hr hml hlk hown hnm hts hKK hP hS hl)
theorem wp_tableOut {dflt lo hi : Int} {offs : Array Int} {len : Nat} {x : Int32} (tgt : Nat) (hdg : decode code pc = .ok (.tableswitch dflt lo hi offs, len)) (h : x.toInt < lo ∨ hi < x.toInt) (ht : (pc : Int) + dflt = (tgt : Int)) (kk : wp l G R own nm code maxL ret Z tgt ls st n K Rf V ca sa) : wp l G R own nm code maxL ret Z pc ls (.inl x :: st) n K Rf V ca sa := by
  intro p e s m args below meth c H locs A hx hb hr hml hlk hown hnm hts hKK hP hS hl
  exact lv_tableOut hx hb hdg h ht (kk p e s m args below meth c H locs A hx hb hr hml hlk hown hnm hts hKK hP hS hl)
theorem wp_lookup {dflt : Int} {ps : Array (Int × Int)} {len : Nat} {x : Int32} {off : Int} (tgt : Nat) (hdg : decode code pc = .ok (.lookupswitch dflt ps, len)) (hp : (ps.toList.zip (ps.toList.drop 1)).all (fun (a, next) => a.1 < next.1) = true) (ho : Op.lookupswitch.offset ps.toList dflt x.toInt = off) (ht : (pc : Int) + off = (tgt : Int)) (kk : wp l G R own nm code maxL ret Z tgt ls st n K Rf V ca sa) : wp l G R own nm code maxL ret Z pc ls (.inl x :: st) n K Rf V ca sa := by
  intro p e s m args below meth c H locs A hx hb hr hml hlk hown hnm hts hKK hP hS hl
  exact lv_lookup hx hb hdg hp ho ht (kk p e s m args below meth c H locs A hx hb hr hml hlk hown hnm hts hKK hP hS hl)
theorem wp_widen {ca' sa' : Nat} (h1 : ca ≤ ca') (h2 : sa ≤ sa') (kk : wp l G R own nm code maxL ret Z pc ls st n K Rf V ca' sa') : wp l G R own nm code maxL ret Z pc ls st n K Rf V ca sa := fun p e s m args below meth c H locs A hx hb hr hml hlk hown hnm hts hKK hP hS hl => W.widen h1 h2 (kk p e s m args below meth c H locs A hx hb hr hml hlk hown hnm hts hKK hP hS hl)
end QM
section QR
variable {l : Launch} {G : gT} {R : Room} {own nm : String} {code : ByteArray} {maxL : Nat} {ret : Option FieldType} {pc : Nat} {ls : List (Option aV)} {n : Nat} {K : kT} {Rf : rT} {V : vT} {mc ms : Nat} {Q : Option aV → Nat → kT → rT → vT → Prop}
theorem QcG.of {s t : State} {H : Heap} {locs : List Loc} {args : Array Value} {r : Option aV} (hP : Pic G n K Rf V s H) (hS : va_S (gA G) s.heap H locs) (ht : t.heap = H) (hW : s.WarmedH t.vm) (hq : Q r n K Rf V) : QcG G Q args s (.returned (r.map (cv G))) t :=
  ⟨⟨r, n, K, Rf, V, rfl, hq, by rw [ht]; exact hP.moved hW.alike⟩, hS.F ht⟩
theorem wp_iret {x : Int32} {ty : FieldType} (hdg : decode code pc = .ok (.ireturn, 1)) (hn : narrow ty (.int x) = .int x) (hq : Q (some (.inl x)) n K Rf V) : wp l G R own nm code maxL (some ty) (Zm G mc ms Q) pc ls [.inl x] n K Rf V mc ms := by
  intro p e s m args below meth c H locs A hx hb hr hml hlk hown hnm hts hKK hP hS hl
  exact W.zret (v := x) hx hb hr hn (fun t ht hW => QcG.of (r := some (.inl x)) hP hS ht hW hq) hS.2.2 hdg
theorem wp_vret (hdg : decode code pc = .ok (.return_, 1)) (hq : Q none n K Rf V) : wp l G R own nm code maxL none (Zm G mc ms Q) pc ls [] n K Rf V mc ms := by
  intro p e s m args below meth c H locs A hx hb hr hml hlk hown hnm hts hKK hP hS hl
  exact W.vret hx hb hr (fun t ht hW => QcG.of (r := none) hP hS ht hW hq) hS.2.2 hdg
theorem wp_aret {r : Option Nat} {ty : FieldType} (hdg : decode code pc = .ok (.areturn, 1)) (hty : (∃ n, ty = .object n) ∨ ∃ t, ty = .array t) (hq : Q (some (.inr r)) n K Rf V) : wp l G R own nm code maxL (some ty) (Zm G mc ms Q) pc ls [.inr r] n K Rf V mc ms := by
  intro p e s m args below meth c H locs A hx hb hr hml hlk hown hnm hts hKK hP hS hl
  exact W.aret (v := cv G (.inr r)) hx hb hr hty (va_rf_or _) (fun t ht hW => QcG.of (r := some (.inr r)) hP hS ht hW hq) hS.2.2 hdg
end QR
