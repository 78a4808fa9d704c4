/-! CORE 4: making cells; calls; a method's entry -/
def upK (K : kT) (o : Nat) (k : Nat ⊕ (Nat × Nat)) : kT := fun a => if a = o then k else K a
theorem upK_s (K : kT) (o : Nat) (k : Nat ⊕ (Nat × Nat)) : upK K o k o = k := by simp [upK]
theorem upK_o (K : kT) {o a : Nat} {k : Nat ⊕ (Nat × Nat)} (h : a ≠ o) : upK K o k a = K a := by simp [upK, h]
theorem Pic.push {G : gT} {n : Nat} {K : kT} {Rf : rT} {V : vT} {s : State} {H H1 : Heap} {k : Nat ⊕ (Nat × Nat)} (hP : Pic G n K Rf V s H) (hz : H1.size = H.size + 1) (oq : ∀ q : Nat, q < H.size → H1[q]? = H[q]?) (hc : cellP G (upK K n k) Rf V s H1 n) : Pic G (n + 1) (upK K n k) Rf V s H1 := by
  have h16 := hP.1
  refine ⟨by omega, by rw [hz, hP.2.1]; omega, fun a ha => ?_, fun a ha j => hP.2.2.2 a (by omega) j⟩
  by_cases han : a = n
  · subst han; exact hc
  · exact ((hP.2.2.1 a (by omega)).kept (fun _ q hq _ => oq q hq) (fun ha16 => oq _ (by rw [hP.2.1]; unfold al; rw [if_neg ha16]; omega))).names (upK_o _ han) (fun _ => rfl) (fun _ => rfl)
theorem al_n {G : gT} {n : Nat} {K : kT} {Rf : rT} {V : vT} {s : State} {H : Heap} (hP : Pic G n K Rf V s H) : al G n = H.size := by
  unfold al; rw [if_neg (by have := hP.1; omega), hP.2.1]
theorem va_S.push {A : Nat → Prop} {H0 H H1 : Heap} {locs : List Loc} (h : va_S A H0 H locs) (hz : H.size ≤ H1.size) (oq : ∀ q : Nat, q < H.size → H1[q]? = H[q]?) : va_S A H0 H1 locs :=
  ⟨Nat.le_trans h.1 hz, fun q h1 h2 => (oq q (Nat.lt_of_lt_of_le h1 h.1)).trans (h.2.1 q h1 h2), h.2.2⟩
/-- what making an object of class ci by entry ix asks of the tables -/
def FNk (own : String) (ix ci N : Nat) : Prop := ∃ (C : String) (T : u_T), qcl[ci]? = some (C, T, N) ∧ (∀ w ∈ u_ws C T N, w ∈ lw_all) ∧ (∀ j, j < N → parseFieldDescriptor (T j).2.2.1 = some (tyQ ci j)) ∧ (∀ j, j < N → (tyQ ci j).isReference = true ∨ (tyQ ci j).isReference = false ∧ defaultValue (tyQ ci j) = .int 0) ∧ Cond.classLink own ix C ∈ lw_all ∧ Cond.instantiable C N ∈ lw_all ∧ Cond.initialized C ∈ lw_all
theorem df_ref {ty : FieldType} (h : ty.isReference = true) : defaultValue ty = .null := by cases ty <;> first | rfl | cases h
section QA
variable {l : Launch} {G : gT} {R : Room} {own nm : String} {code : ByteArray} {maxL : Nat} {ret : Option FieldType} {Z : List Frame → Array Value → State → State → Prop} {pc : Nat} {ls : List (Option aV)} {st : List aV} {n : Nat} {K : kT} {Rf : rT} {V : vT} {ca sa : Nat}
theorem wp_new {ix ci N : Nat} (hdg : decode code pc = .ok (.new ix, 3)) (hF : FNk own ix ci N) (hc : ca + 1 ≤ R.cells) (hs : sa + N ≤ R.slots) (kk : wp l G R own nm code maxL ret Z (pc + 3) ls (.inr (some n) :: st) (n + 1) (upK K n (.inl ci)) Rf V (ca + 1) (sa + N)) : wp l G R own nm code maxL ret Z pc ls st n K Rf V ca sa := by
  intro p e s m args below meth c H locs A hx hb hr hml hlk hown hnm hts hKK hP hS hl
  obtain ⟨C, T, hci, hin, hty, hdf, hcl, hinst, hini⟩ := hF
  have hKn := hKK.1.1 ci _ hci
  refine W.newcK hx hb hown (hts _ hcl) (hts _ hinst) (hts _ hini) rfl hdg hc hs hKn.2.1 rfl fun H1 kC hkC e1 z1 o1 => ?_
  have hn := al_n hP
  have h16 := hP.1
  have hP1 : Pic G (n + 1) (upK K n (.inl ci)) Rf V s H1 := by
    refine hP.push z1 o1 ?_
    unfold cellP
    rw [if_neg (by omega), upK_s, hn]
    refine ⟨_, hci, (u_born (tyQ ci) hts hin hKn hkC e1 hty).to fun j hj => ?_⟩
    have hz := hP.2.2.2 n (Nat.le_refl n) j
    unfold fvl
    rcases hdf j hj with h | ⟨h, h'⟩
    · rw [if_pos h, hz.2, df_ref h]; rfl
    · rw [if_neg (by rw [h]; decide), hz.1, h']
  have hS1 := hS.push (by omega) o1
  rw [← hn]
  exact kk p e s m args below meth c H1 locs A hx hb hr hml hlk hown hnm hts hKK hP1 hS1 hl
theorem wp_newI {x : Int32} (len : Nat) (hdg : decode code pc = .ok (.newarray .int, 2)) (hq : Cond.arrayClass .int ∈ lw_all) (hx0 : ¬ x < 0) (hlen : x.toNatClampNeg = len) (hbig : len ≤ 100000) (hc : ca + 1 ≤ R.cells) (hs : sa + len ≤ R.slots) (kk : wp l G R own nm code maxL ret Z (pc + 2) ls (.inr (some n) :: st) (n + 1) (upK K n (.inr (0, len))) Rf V (ca + 1) (sa + len)) : wp l G R own nm code maxL ret Z pc ls (.inl x :: st) n K Rf V ca sa := by
  intro p e s m args below meth c H locs A hx hb hr hml hlk hown hnm hts hKK hP hS hl
  refine va_newaK (atype := .int) hx hb (hts _ hq) rfl hdg rfl hx0 hlen (by show len * _ ≤ _; simp only [newarray.typeOf, componentBytes]; omega) hc hs rfl fun H1 cA e1 z1 o1 hAr hNm => ?_
  have hn := al_n hP
  have h16 := hP.1
  have hcA : cA = G.2.1 0 := Option.some.inj (hNm.symm.trans ((hKK.arrOf (t := 0) (by omega)).2))
  subst hcA
  have hP1 : Pic G (n + 1) (upK K n (.inr (0, len))) Rf V s H1 := by
    refine hP.push z1 o1 ?_
    unfold cellP
    rw [if_neg (by omega), upK_s, hn]
    refine ⟨by omega, e1.trans ?_⟩
    congr 2
    funext j
    have hz := hP.2.2.2 n (Nat.le_refl n) j
    simp [elv, hz.1, newarray.typeOf, defaultValue]
  have hS1 := hS.push (by omega) o1
  rw [← hn]
  exact kk p e s m args below meth c H1 locs A hx hb hr hml hlk hown hnm hts hKK hP1 hS1 hl
theorem wp_newB {x : Int32} (len : Nat) (hdg : decode code pc = .ok (.newarray .byte, 2)) (hq : Cond.arrayClass .byte ∈ lw_all) (hx0 : ¬ x < 0) (hlen : x.toNatClampNeg = len) (hbig : len ≤ 100000) (hc : ca + 1 ≤ R.cells) (hs : sa + len ≤ R.slots) (kk : wp l G R own nm code maxL ret Z (pc + 2) ls (.inr (some n) :: st) (n + 1) (upK K n (.inr (1, len))) Rf V (ca + 1) (sa + len)) : wp l G R own nm code maxL ret Z pc ls (.inl x :: st) n K Rf V ca sa := by
  intro p e s m args below meth c H locs A hx hb hr hml hlk hown hnm hts hKK hP hS hl
  refine va_newaK (atype := .byte) hx hb (hts _ hq) rfl hdg rfl hx0 hlen (by show len * _ ≤ _; simp only [newarray.typeOf, componentBytes]; omega) hc hs rfl fun H1 cA e1 z1 o1 hAr hNm => ?_
  have hn := al_n hP
  have h16 := hP.1
  have hcA : cA = G.2.1 1 := Option.some.inj (hNm.symm.trans ((hKK.arrOf (t := 1) (by omega)).2))
  subst hcA
  have hP1 : Pic G (n + 1) (upK K n (.inr (1, len))) Rf V s H1 := by
    refine hP.push z1 o1 ?_
    unfold cellP
    rw [if_neg (by omega), upK_s, hn]
    refine ⟨by omega, e1.trans ?_⟩
    congr 2
    funext j
    have hz := hP.2.2.2 n (Nat.le_refl n) j
    simp [elv, hz.1, newarray.typeOf, defaultValue]
  have hS1 := hS.push (by omega) o1
  rw [← hn]
  exact kk p e s m args below meth c H1 locs A hx hb hr hml hlk hown hnm hts hKK hP1 hS1 hl
theorem wp_newZ {x : Int32} (len : Nat) (hdg : decode code pc = .ok (.newarray .boolean, 2)) (hq : Cond.arrayClass .boolean ∈ lw_all) (hx0 : ¬ x < 0) (hlen : x.toNatClampNeg = len) (hbig : len ≤ 100000) (hc : ca + 1 ≤ R.cells) (hs : sa + len ≤ R.slots) (kk : wp l G R own nm code maxL ret Z (pc + 2) ls (.inr (some n) :: st) (n + 1) (upK K n (.inr (2, len))) Rf V (ca + 1) (sa + len)) : wp l G R own nm code maxL ret Z pc ls (.inl x :: st) n K Rf V ca sa := by
  intro p e s m args below meth c H locs A hx hb hr hml hlk hown hnm hts hKK hP hS hl
  refine va_newaK (atype := .boolean) hx hb (hts _ hq) rfl hdg rfl hx0 hlen (by show len * _ ≤ _; simp only [newarray.typeOf, componentBytes]; omega) hc hs rfl fun H1 cA e1 z1 o1 hAr hNm => ?_
  have hn := al_n hP
  have h16 := hP.1
  have hcA : cA = G.2.1 2 := Option.some.inj (hNm.symm.trans ((hKK.arrOf (t := 2) (by omega)).2))
  subst hcA
  have hP1 : Pic G (n + 1) (upK K n (.inr (2, len))) Rf V s H1 := by
    refine hP.push z1 o1 ?_
    unfold cellP
    rw [if_neg (by omega), upK_s, hn]
    refine ⟨by omega, e1.trans ?_⟩
    congr 2
    funext j
    have hz := hP.2.2.2 n (Nat.le_refl n) j
    simp [elv, hz.1, newarray.typeOf, defaultValue]
  have hS1 := hS.push (by omega) o1
  rw [← hn]
  exact kk p e s m args below meth c H1 locs A hx hb hr hml hlk hown hnm hts hKK hP1 hS1 hl
theorem wp_anew {ix : Nat} {x : Int32} {E : String} (t len : Nat) (hdg : decode code pc = .ok (.anewarray ix, 3)) (hq : Cond.classLink own ix E ∈ lw_all) (ht7 : t < 7) (ht : arrTy t = .object E) (hE : ∀ s, KKs G s → va_AO E s) (hx0 : ¬ x < 0) (hlen : x.toNatClampNeg = len) (hbig : len ≤ 100000) (hc : ca + 1 ≤ R.cells) (hs : sa + len ≤ R.slots) (kk : wp l G R own nm code maxL ret Z (pc + 3) ls (.inr (some n) :: st) (n + 1) (upK K n (.inr (t, len))) Rf V (ca + 1) (sa + len)) : wp l G R own nm code maxL ret Z pc ls (.inl x :: st) n K Rf V ca sa := by
  intro p e s m args below meth c H locs A hx hb hr hml hlk hown hnm hts hKK hP hS hl
  subst hlen
  refine W.anew hx hb hown (hts _ hq) (va_AO.use (hE s hKK)) rfl hdg rfl hx0 (by omega) hc hs fun cA kA comp f1 f2 f3 f4 => ?_
  generalize hH1 : H.push ({ cls := cA, slots := Array.replicate x.toNatClampNeg .null, vm := .none } : Cell) = H1
  have z1 : H1.size = H.size + 1 := by rw [← hH1, Array.size_push]
  have e1 : H1[H.size]? = some (arrV cA x.toNatClampNeg (fun _ => .null)) := by rw [← hH1, Array.getElem?_push_size, ← arrV_new]
  have o1 : ∀ q : Nat, q < H.size → H1[q]? = H[q]? := fun q hq => by rw [← hH1, Array.getElem?_push, if_neg (Nat.ne_of_lt hq)]
  have hn := al_n hP
  have h16 := hP.1
  have hRA := (hKK.arrOf ht7).2
  rw [ht] at hRA
  obtain ⟨_, _, _, _, _, hnm9⟩ := hRA
  have hcA : cA = G.2.1 t := Option.some.inj (f1.symm.trans hnm9)
  subst hcA
  have ht3 : ¬ t < 3 := fun h => by
    rcases (show t = 0 ∨ t = 1 ∨ t = 2 by omega) with rfl | rfl | rfl <;> cases ht
  have hP1 : Pic G (n + 1) (upK K n (.inr (t, x.toNatClampNeg))) Rf V s H1 := by
    refine hP.push z1 o1 ?_
    unfold cellP
    rw [if_neg (by omega), upK_s, hn]
    refine ⟨ht7, e1.trans ?_⟩
    congr 2
    funext j
    have hz := hP.2.2.2 n (Nat.le_refl n) j
    simp [elv, hz.2, ht3, va_rf]
  have hS1 := hS.push (by omega) o1
  rw [← hn]
  exact kk p e s m args below meth c H1 locs A hx hb hr hml hlk hown hnm hts hKK hP1 hS1 hl
theorem rmQ_ok {d d' mc ms mc' ms' mL : Nat} (h : d' < d) (hm : mL ≤ 40) : (rmQ d' mc' ms').frames + 1 ≤ (rmQ d mc ms).frames ∧ 8 + (mL + 11) + (rmQ d' mc' ms').locals ≤ (rmQ d mc ms).locals := by
  constructor
  · show d' + 1 + 1 ≤ d + 1; omega
  · show 8 + (mL + 11) + (12 + 60 * d') ≤ 12 + 60 * d; omega
/-- behind a call -/
theorem W_back {p : Program} {e : Env} {s : State} {m : MethodId} {args : Array Value} {below : List Frame} {meth : Method} {c : Code} {H : Heap} {locs : List Loc} {A : Array Slot} {st0 : List Value} {a : Array Value} {mc' ms' : Nat} {Q' : Option aV → Nat → kT → rT → vT → Prop}
    (hx : p.tables.exec = Jvm.exec) (hb : c.code = code) (hr : meth.sig.returnType = ret) (hml : c.maxLocals = maxL) (hlk : meth.locks = false) (hown : s.vm.findClass own = some m.cls) (hnm : meth.name = nm) (hts : ∀ w ∈ lw_all, w.before args s = true) (hKK : KKs G s) (hS : va_S (gA G) s.heap H locs) (hl : lsOK G maxL A ls)
    (hrun : va_Run p l e R s m args below meth c H locs ca sa mc' ms' (F0 m pc A st0) (st.map (cv G)) (QcG G Q' a) (gA G))
    (kk : ∀ (r : Option aV) (n' : Nat) (K' : kT) (Rf' : rT) (V' : vT), Q' r n' K' Rf' V' → wp l G R own nm code maxL ret Z (pc + 3) ls (r.toList ++ st) n' K' Rf' V' (ca + mc') (sa + ms')) : W p l e R s m args below meth c H locs ca sa (Z below args s) (F0 m pc A st0) := by
  intro T hT X
  obtain ⟨v, st₀, t, T', L, h0, X', hL, e1, e2, hq, st9⟩ := hrun T hT X
  obtain ⟨⟨r, n', K', Rf', V', hv, hQ, hPic⟩, hF⟩ := hq
  have hv' : v = r.map (cv G) := Outcome.returned.inj hv
  subst hv'
  have hal : s.vm.Alike t.vm := by rw [← e2]; exact X'.warmed.alike
  have hP' : Pic G n' K' Rf' V' s T'.heap := by rw [e1]; exact hPic.moved hal.symm
  have hz : H.size ≤ T'.heap.size := by rw [e1, ← h0]; exact hF.1
  have hk : ∀ q : Nat, q < H.size → ¬ gA G q → T'.heap[q]? = H[q]? := fun q h1 h2 => by rw [e1]; rw [← h0] at h1; rw [hF.2 q h1 h2, h0]
  have hS' : va_S (gA G) s.heap T'.heap (locs ++ L) := ⟨Nat.le_trans hS.1 hz, fun q h1 h2 => (hk q (Nat.lt_of_lt_of_le h1 hS.1) h2).trans (hS.2.1 q h1 h2), fun q hq => by
    rcases List.mem_append.mp hq with h | h
    · exact hS.2.2 q h
    · exact hL q h⟩
  obtain ⟨t2, a1, b1⟩ := kk r n' K' Rf' V' hQ p e s m args below meth c T'.heap (locs ++ L) A hx hb hr hml hlk hown hnm hts hKK hP' hS' hl T' rfl X'
  refine ⟨t2, st9 t2 ?_, b1⟩
  have e9 : ((r.toList ++ st).map (cv G)) = (r.map (cv G)).toList ++ st.map (cv G) := by cases r <;> rfl
  rw [e9] at a1
  exact a1
theorem wp_pre {s : State} {H : Heap} {locs : List Loc} {as : List aV} (hKK : KKs G s) (hP : Pic G n K Rf V s H) (hS : va_S (gA G) s.heap H locs) (U : State) (hU : U.heap = H) (hW : s.WarmedH U.vm) : PcG G as n K Rf V ((as.map (cv G)).toArray) U :=
  ⟨rfl, hKK.warm hW (by rw [hU]; exact hS), by rw [hU]; exact hP.moved hW.alike⟩
theorem room_rest {m : MethodId} {A : Array Slot} {st0 : List Value} (h : st.length ≤ 8) : 2 * (F0 m pc A st0).monitorRoom + ((st.map (cv G)).map fun v => v.category).sum ≤ 8 := by
  refine lv_room ?_
  have hsum : ((st.map (cv G)).map fun v => v.category).sum = st.length := by
    clear h
    induction st with
    | nil => rfl
    | cons a t ih => simp only [List.map_cons, List.sum_cons, List.length_cons, cv_cat, ih]; omega
  omega
def LkV (own : String) (ix : Nat) (C : String) (y : MethodName) (by_ : ByteArray) (mL : Nat) (rt : Option FieldType) (na : Nat) : Prop :=
  Cond.methodLink own ix y ∈ lw_all ∧ Cond.instanceMethod y ∈ lw_all ∧ Cond.selects C y y ∈ lw_all ∧ Cond.initialized C ∈ lw_all ∧ Cond.code y by_ mL rt ∈ lw_all ∧ (y.cls = C ∧ y.cls ≠ "java/lang/invoke/MethodHandle" ∧ y.cls ≠ "java/lang/invoke/VarHandle" ∧ (parseMethodDescriptor y.desc).map (fun d => d.parameters.length) = some na)
def LkS (own : String) (ix : Nat) (y : MethodName) (by_ : ByteArray) (mL : Nat) (rt : Option FieldType) (na : Nat) : Prop :=
  Cond.methodLink own ix y ∈ lw_all ∧ Cond.static y ∈ lw_all ∧ Cond.initialized y.cls ∈ lw_all ∧ Cond.code y by_ mL rt ∈ lw_all ∧ (y.cls ≠ "java/lang/invoke/MethodHandle" ∧ y.cls ≠ "java/lang/invoke/VarHandle" ∧ (parseMethodDescriptor y.desc).map (fun d => d.parameters.length) = some na)
def LkSN (own : String) (ix : Nat) (y : MethodName) (by_ : ByteArray) (mL : Nat) (rt : Option FieldType) (na : Nat) : Prop :=
  (∃ host, Cond.methodLinkNest own ix y host ∈ nestQ) ∧ Cond.static y ∈ lw_all ∧ Cond.initialized y.cls ∈ lw_all ∧ Cond.code y by_ mL rt ∈ lw_all ∧ (y.cls ≠ "java/lang/invoke/MethodHandle" ∧ y.cls ≠ "java/lang/invoke/VarHandle" ∧ (parseMethodDescriptor y.desc).map (fun d => d.parameters.length) = some na)
def LkI (own : String) (ix : Nat) (y : MethodName) (by_ : ByteArray) (mL : Nat) (na : Nat) : Prop :=
  Cond.methodLink own ix y ∈ lw_all ∧ Cond.instanceMethod y ∈ lw_all ∧ Cond.initialized y.cls ∈ lw_all ∧ Cond.code y by_ mL none ∈ lw_all ∧ y.name = "<init>" ∧ (y.cls ≠ "java/lang/invoke/MethodHandle" ∧ y.cls ≠ "java/lang/invoke/VarHandle" ∧ (parseMethodDescriptor y.desc).map (fun d => d.parameters.length) = some na)
def LkIN (own : String) (ix : Nat) (y : MethodName) (by_ : ByteArray) (mL : Nat) (na : Nat) : Prop :=
  (∃ host, Cond.methodLinkNest own ix y host ∈ nestQ) ∧ Cond.instanceMethod y ∈ lw_all ∧ Cond.initialized y.cls ∈ lw_all ∧ Cond.code y by_ mL none ∈ lw_all ∧ y.name = "<init>" ∧ (y.cls ≠ "java/lang/invoke/MethodHandle" ∧ y.cls ≠ "java/lang/invoke/VarHandle" ∧ (parseMethodDescriptor y.desc).map (fun d => d.parameters.length) = some na)
/-- the reference names x, the receiver's class C selects y -/
def LkU (own : String) (ix : Nat) (C owner : String) (x y : MethodName) (by_ : ByteArray) (mL : Nat) (rt : Option FieldType) (na : Nat) : Prop :=
  Cond.methodLink own ix x ∈ lw_all ∧ Cond.sameMethod x.cls owner x.name x.desc ∈ lw_all ∧ Cond.selects C x y ∈ lw_all ∧ Cond.instanceMethod y ∈ lw_all ∧ Cond.initialized y.cls ∈ lw_all ∧ Cond.code y by_ mL rt ∈ lw_all ∧ (Cond.declares ⟨owner, x.name, x.desc⟩ ∈ nestQ ∨ y = ⟨owner, x.name, x.desc⟩) ∧ (owner ≠ "java/lang/invoke/MethodHandle" ∧ owner ≠ "java/lang/invoke/VarHandle" ∧ (parseMethodDescriptor x.desc).map (fun d => d.parameters.length) = some na)
theorem recvQ {s : State} {H : Heap} {b ci : Nat} {C : String} {T : u_T} {N : Nat} (hKK : KKs G s) (hP : Pic G n K Rf V s H) (hbn : 16 ≤ b ∧ b < n) (hkb : K b = .inl ci) (hci : qcl[ci]? = some (C, T, N)) : ∃ cellB : Cell, H[al G b]? = some cellB ∧ cellB.vm.isStatics = false ∧ s.vm.findClass C = some cellB.cls := by
  obtain ⟨r, h1, cell, q1, q2, q3, -⟩ := hP.obj hbn.2 (by omega) hkb
  exact ⟨cell, q1, by rw [q3]; rfl, by rw [q2]; exact (hKK.1.1 ci _ hci).2.1⟩
theorem wp_callVg {ix : Nat} {y : MethodName} {by_ : ByteArray} {mL : Nat} {rt : Option FieldType} {d' mc' ms' : Nat} {Q' : Option aV → Nat → kT → rT → vT → Prop} (as : List aV) {b ci : Nat} {C : String} {T : u_T} {N : Nat} (hL : LkV own ix C y by_ mL rt as.length) (hci : qcl[ci]? = some (C, T, N)) (hbn : 16 ≤ b ∧ b < n) (hkb : K b = .inl ci) (hdg : decode code pc = .ok (.invokevirtual ix, 3)) (hok : MOk l G d' y by_ mL rt (.inr (some b) :: as) n K Rf V mc' ms' Q') (hR : (rmQ d' mc' ms').frames + 1 ≤ R.frames ∧ 8 + (mL + 11) + (rmQ d' mc' ms').locals ≤ R.locals) (hroom : ca + mc' ≤ R.cells ∧ sa + ms' ≤ R.slots) (hrest : st.length ≤ 8) (kk : ∀ (r : Option aV) (n' : Nat) (K' : kT) (Rf' : rT) (V' : vT), Q' r n' K' Rf' V' → wp l G R own nm code maxL ret Z (pc + 3) ls (r.toList ++ st) n' K' Rf' V' (ca + mc') (sa + ms')) : wp l G R own nm code maxL ret Z pc ls (as.reverse ++ .inr (some b) :: st) n K Rf V ca sa := by
  intro p e s m args below meth c H locs A hx hb hr hml hlk hown hnm hts hKK hP hS hl
  have e0 : (as.reverse ++ (.inr (some b) : aV) :: st).map (cv G) = (as.map (cv G)).reverse ++ .ref (al G b) :: st.map (cv G) := by simp [cv, va_rf]
  rw [e0]
  obtain ⟨w1, w2, w3, w4, w5, w6⟩ := hL
  exact W_back hx hb hr hml hlk hown hnm hts hKK hS hl (a := (Value.ref (al G b) :: as.map (cv G)).toArray) (va_runV (C := C) (b := al G b) (As := as.map (cv G)) ⟨hx, hb, hml, hown, hts⟩ hok (cwV as.length hts (lw_V w1 w2 w3 w4 w5) rfl rfl rfl w6 hR) ⟨PcG.blind, recvQ hKK hP hbn hkb hci, fun U hU hW => wp_pre hKK hP hS U hU hW⟩ rfl (by simp) hl.1 rfl (room_rest hrest) hdg hroom) kk
theorem wp_callUg {ix : Nat} {y : MethodName} {by_ : ByteArray} {mL : Nat} {rt : Option FieldType} {d' mc' ms' : Nat} {Q' : Option aV → Nat → kT → rT → vT → Prop} (as : List aV) {b ci : Nat} {C owner : String} {x : MethodName} {T : u_T} {N : Nat} (hL : LkU own ix C owner x y by_ mL rt as.length) (hci : qcl[ci]? = some (C, T, N)) (hbn : 16 ≤ b ∧ b < n) (hkb : K b = .inl ci) (hdg : decode code pc = .ok (.invokevirtual ix, 3)) (hok : MOk l G d' y by_ mL rt (.inr (some b) :: as) n K Rf V mc' ms' Q') (hR : (rmQ d' mc' ms').frames + 1 ≤ R.frames ∧ 8 + (mL + 11) + (rmQ d' mc' ms').locals ≤ R.locals) (hroom : ca + mc' ≤ R.cells ∧ sa + ms' ≤ R.slots) (hrest : st.length ≤ 8) (kk : ∀ (r : Option aV) (n' : Nat) (K' : kT) (Rf' : rT) (V' : vT), Q' r n' K' Rf' V' → wp l G R own nm code maxL ret Z (pc + 3) ls (r.toList ++ st) n' K' Rf' V' (ca + mc') (sa + ms')) : wp l G R own nm code maxL ret Z pc ls (as.reverse ++ .inr (some b) :: st) n K Rf V ca sa := by
  intro p e s m args below meth c H locs A hx hb hr hml hlk hown hnm hts hKK hP hS hl
  have e0 : (as.reverse ++ (.inr (some b) : aV) :: st).map (cv G) = (as.map (cv G)).reverse ++ .ref (al G b) :: st.map (cv G) := by simp [cv, va_rf]
  rw [e0]
  obtain ⟨w1, w2, w3, w4, w5, w6, w7, w8⟩ := hL
  have hG9 : GoodIn lw_all (va_wsU own ix C owner x y (ws_ y by_ mL rt)) := lw_app (fun w hw => by
    simp only [List.mem_cons, List.not_mem_nil, or_false] at hw
    rcases hw with rfl | rfl | rfl | rfl | rfl <;> assumption) (lw_meth w6)
  have cw : va_CU R s args own C owner ix x y by_ mL rt (ws_ y by_ mL rt) (rmQ d' mc' ms') mc' ms' as.length := by
    rcases w7 with w7 | w7
    · exact va_cwA as.length hts hG9 rfl rfl rfl (hKK.2.1 _ w7) w8 hR
    · exact va_cwU as.length hts hG9 rfl rfl rfl w7 w8 hR
  exact W_back hx hb hr hml hlk hown hnm hts hKK hS hl (a := (Value.ref (al G b) :: as.map (cv G)).toArray) (va_runU (C := C) (owner := owner) (b := al G b) (As := as.map (cv G)) ⟨hx, hb, hml, hown, hts⟩ hok cw ⟨PcG.blind, recvQ hKK hP hbn hkb hci, fun U hU hW => wp_pre hKK hP hS U hU hW⟩ rfl (by simp) hl.1 rfl (room_rest hrest) hdg hroom) kk
theorem wp_callSg {ix : Nat} {y : MethodName} {by_ : ByteArray} {mL : Nat} {rt : Option FieldType} {d' mc' ms' : Nat} {Q' : Option aV → Nat → kT → rT → vT → Prop} (as : List aV) (hL : LkS own ix y by_ mL rt as.length) (hdg : decode code pc = .ok (.invokestatic ix, 3)) (hok : MOk l G d' y by_ mL rt as n K Rf V mc' ms' Q') (hR : (rmQ d' mc' ms').frames + 1 ≤ R.frames ∧ 8 + (mL + 11) + (rmQ d' mc' ms').locals ≤ R.locals) (hroom : ca + mc' ≤ R.cells ∧ sa + ms' ≤ R.slots) (hrest : st.length ≤ 8) (kk : ∀ (r : Option aV) (n' : Nat) (K' : kT) (Rf' : rT) (V' : vT), Q' r n' K' Rf' V' → wp l G R own nm code maxL ret Z (pc + 3) ls (r.toList ++ st) n' K' Rf' V' (ca + mc') (sa + ms')) : wp l G R own nm code maxL ret Z pc ls (as.reverse ++ st) n K Rf V ca sa := by
  intro p e s m args below meth c H locs A hx hb hr hml hlk hown hnm hts hKK hP hS hl
  have e0 : (as.reverse ++ st).map (cv G) = (as.map (cv G)).reverse ++ st.map (cv G) := by simp
  rw [e0]
  obtain ⟨w1, w2, w3, w4, w6⟩ := hL
  exact W_back hx hb hr hml hlk hown hnm hts hKK hS hl (a := (as.map (cv G)).toArray) (va_runS (As := as.map (cv G)) ⟨hx, hb, hml, hown, hts⟩ hok (va_cwS as.length hts (lw_S w1 w2 w3 w4) rfl rfl rfl w6 hR) ⟨PcG.blind, fun U hU hW => wp_pre hKK hP hS U hU hW⟩ rfl (by simp) hl.1 rfl (room_rest hrest) hdg hroom) kk
theorem wp_callSNg {ix : Nat} {y : MethodName} {by_ : ByteArray} {mL : Nat} {rt : Option FieldType} {d' mc' ms' : Nat} {Q' : Option aV → Nat → kT → rT → vT → Prop} (as : List aV) (hL : LkSN own ix y by_ mL rt as.length) (hdg : decode code pc = .ok (.invokestatic ix, 3)) (hok : MOk l G d' y by_ mL rt as n K Rf V mc' ms' Q') (hR : (rmQ d' mc' ms').frames + 1 ≤ R.frames ∧ 8 + (mL + 11) + (rmQ d' mc' ms').locals ≤ R.locals) (hroom : ca + mc' ≤ R.cells ∧ sa + ms' ≤ R.slots) (hrest : st.length ≤ 8) (kk : ∀ (r : Option aV) (n' : Nat) (K' : kT) (Rf' : rT) (V' : vT), Q' r n' K' Rf' V' → wp l G R own nm code maxL ret Z (pc + 3) ls (r.toList ++ st) n' K' Rf' V' (ca + mc') (sa + ms')) : wp l G R own nm code maxL ret Z pc ls (as.reverse ++ st) n K Rf V ca sa := by
  intro p e s m args below meth c H locs A hx hb hr hml hlk hown hnm hts hKK hP hS hl
  have e0 : (as.reverse ++ st).map (cv G) = (as.map (cv G)).reverse ++ st.map (cv G) := by simp
  rw [e0]
  obtain ⟨⟨host, w1⟩, w2, w3, w4, w6⟩ := hL
  exact W_back hx hb hr hml hlk hown hnm hts hKK hS hl (a := (as.map (cv G)).toArray) (va_runSN (As := as.map (cv G)) ⟨hx, hb, hml, hown, hts⟩ hok ⟨va_cnB as.length hts (lw_meth w4) rfl rfl rfl (hKK.2.1 _ w1) (hts _ w3) w6 hR, hts _ w2, trivial⟩ ⟨PcG.blind, fun U hU hW => wp_pre hKK hP hS U hU hW⟩ rfl (by simp) hl.1 rfl (room_rest hrest) hdg hroom) kk
theorem wp_callIg {ix : Nat} {y : MethodName} {by_ : ByteArray} {mL : Nat} {d' mc' ms' : Nat} {Q' : Option aV → Nat → kT → rT → vT → Prop} {b : Nat} (as : List aV) (hL : LkI own ix y by_ mL as.length) (hdg : decode code pc = .ok (.invokespecial ix, 3)) (hok : MOk l G d' y by_ mL none (.inr (some b) :: as) n K Rf V mc' ms' Q') (hR : (rmQ d' mc' ms').frames + 1 ≤ R.frames ∧ 8 + (mL + 11) + (rmQ d' mc' ms').locals ≤ R.locals) (hroom : ca + mc' ≤ R.cells ∧ sa + ms' ≤ R.slots) (hrest : st.length ≤ 8) (kk : ∀ (r : Option aV) (n' : Nat) (K' : kT) (Rf' : rT) (V' : vT), Q' r n' K' Rf' V' → wp l G R own nm code maxL ret Z (pc + 3) ls (r.toList ++ st) n' K' Rf' V' (ca + mc') (sa + ms')) : wp l G R own nm code maxL ret Z pc ls (as.reverse ++ .inr (some b) :: st) n K Rf V ca sa := by
  intro p e s m args below meth c H locs A hx hb hr hml hlk hown hnm hts hKK hP hS hl
  have e0 : (as.reverse ++ (.inr (some b) : aV) :: st).map (cv G) = (as.map (cv G)).reverse ++ .ref (al G b) :: st.map (cv G) := by simp [cv, va_rf]
  rw [e0]
  obtain ⟨w1, w2, w3, w4, w5, w6⟩ := hL
  exact W_back hx hb hr hml hlk hown hnm hts hKK hS hl (a := (Value.ref (al G b) :: as.map (cv G)).toArray) (va_runI (b := al G b) (As := as.map (cv G)) ⟨hx, hb, hml, hown, hts⟩ hok (cwI as.length hts (lw_meth w4) rfl rfl rfl (hts _ w3) (hts _ w1) (hts _ w2) w5 w6 hR) ⟨PcG.blind, fun U hU hW => wp_pre hKK hP hS U hU hW⟩ rfl (by simp) hl.1 rfl (room_rest hrest) hdg hroom) kk
theorem wp_callINg {ix : Nat} {y : MethodName} {by_ : ByteArray} {mL : Nat} {d' mc' ms' : Nat} {Q' : Option aV → Nat → kT → rT → vT → Prop} {b : Nat} (as : List aV) (hL : LkIN own ix y by_ mL as.length) (hdg : decode code pc = .ok (.invokespecial ix, 3)) (hok : MOk l G d' y by_ mL none (.inr (some b) :: as) n K Rf V mc' ms' Q') (hR : (rmQ d' mc' ms').frames + 1 ≤ R.frames ∧ 8 + (mL + 11) + (rmQ d' mc' ms').locals ≤ R.locals) (hroom : ca + mc' ≤ R.cells ∧ sa + ms' ≤ R.slots) (hrest : st.length ≤ 8) (kk : ∀ (r : Option aV) (n' : Nat) (K' : kT) (Rf' : rT) (V' : vT), Q' r n' K' Rf' V' → wp l G R own nm code maxL ret Z (pc + 3) ls (r.toList ++ st) n' K' Rf' V' (ca + mc') (sa + ms')) : wp l G R own nm code maxL ret Z pc ls (as.reverse ++ .inr (some b) :: st) n K Rf V ca sa := by
  intro p e s m args below meth c H locs A hx hb hr hml hlk hown hnm hts hKK hP hS hl
  have e0 : (as.reverse ++ (.inr (some b) : aV) :: st).map (cv G) = (as.map (cv G)).reverse ++ .ref (al G b) :: st.map (cv G) := by simp [cv, va_rf]
  rw [e0]
  obtain ⟨⟨host, w1⟩, w2, w3, w4, w5, w6⟩ := hL
  exact W_back hx hb hr hml hlk hown hnm hts hKK hS hl (a := (Value.ref (al G b) :: as.map (cv G)).toArray) (va_runIN (b := al G b) (As := as.map (cv G)) ⟨hx, hb, hml, hown, hts⟩ hok ⟨va_cnB as.length hts (lw_meth w4) rfl rfl rfl (hKK.2.1 _ w1) (hts _ w3) w6 hR, w5, hts _ w2⟩ ⟨PcG.blind, fun U hU hW => wp_pre hKK hP hS U hU hW⟩ rfl (by simp) hl.1 rfl (room_rest hrest) hdg hroom) kk
end QA
theorem lv_args_mem (G : gT) : ∀ (as : List aV) (i j : Nat) (v : aV), as[j]? = some v → (i + j, cv G v) ∈ lv_args i (as.map (cv G))
  | [], _, _, _, h => by simp at h
  | a :: as, i, 0, v, h => by
    simp at h; subst h
    simp [lv_args]
  | a :: as, i, j + 1, v, h => by
    simp only [List.map_cons, lv_args, cv_cat]
    refine List.mem_cons_of_mem _ ?_
    have := lv_args_mem G as (i + 1) j v (by simpa using h)
    rw [show i + (j + 1) = i + 1 + j by omega]
    simpa using this
theorem lg_sl_len (G : gT) (as : List aV) : (lg_sl (as.map (cv G))).length = as.length := by
  induction as with
  | nil => rfl
  | cons a t ih =>
    have e : lg_sl ((a :: t).map (cv G)) = .val (cv G a) :: lg_sl (t.map (cv G)) := by simp [lg_sl, cv_cat]
    rw [e]; simp [ih]
/-- a method's contract out of the walk from its entry -/
theorem MOk.enter {l : Launch} {G : gT} {d : Nat} {y : MethodName} {code : ByteArray} {maxL : Nat} {ret : Option FieldType} {as : List aV} {n : Nat} {K : kT} {Rf : rT} {V : vT} {mc ms : Nat} {Q : Option aV → Nat → kT → rT → vT → Prop} {own nm : String} (ls : List (Option aV)) (hy : plainName y.cls = true) (hown : y.cls = own) (hnm : y.name = nm) (hlen : as.length ≤ maxL) (hls : as.map some ++ List.replicate (maxL - as.length) none = ls)
    (h : wp l G (rmQ d mc ms) own nm code maxL ret (Zm G mc ms Q) 0 ls [] n K Rf V 0 0) : MOk l G d y code maxL ret as n K Rf V mc ms Q := by
  subst hls hown hnm
  refine Met.ofW (cc := code) (maxL := maxL) (ret := ret) hy rfl ?_
  intro p e s m args below meth c s₁ B hml hv
  obtain ⟨rfl, hKK, hP⟩ := hv
  have hts := atoms_spec (ws := ws_ y code maxL ret) B.pre
  have hts : ∀ w ∈ lw_all, w.before _ s = true := fun w h => hts w (List.mem_cons_of_mem _ h)
  have hown : s.vm.findClass y.cls = some m.cls := findClass_of_methodNamed B.named
  have hnm : meth.name = y.name := (name_of_methodNamed B.named B.method).1
  have hl := lv_entry (as.map (cv G)) (n := maxL) (by rw [lg_sl_len]; exact hlen)
  rw [lg_entry_eq]
  refine h p e s m _ below meth c s.heap [] _ B.exec B.bytes B.returns hml B.notSynchronized hown hnm hts hKK hP va_S.rf ⟨hl.1, ?_, hl.2.1, fun i v hi => ?_⟩
  · simp; omega
  · by_cases hia : i < as.length
    · rw [List.getElem?_append_left (by simpa using hia), List.getElem?_map] at hi
      cases hv : as[i]? with
      | none => rw [hv] at hi; cases hi
      | some w =>
        rw [hv] at hi; cases hi
        have := lv_args_mem G as 0 i v hv
        rw [Nat.zero_add] at this
        exact hl.2.2 _ this
    · rw [List.getElem?_append_right (by simpa using hia)] at hi
      rw [List.getElem?_replicate] at hi
      split at hi <;> cases hi
