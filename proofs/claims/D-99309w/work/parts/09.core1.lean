/-! CORE 1: a quiet machine over names: an address is a name, a heap is kinds, integers and references under names -/
abbrev aV : Type := Int32 ⊕ Option Nat
abbrev vT : Type := Nat → Nat → Int32
abbrev rT : Type := Nat → Nat → Option Nat
abbrev kT : Type := Nat → Nat ⊕ (Nat × Nat)
/-- what the tables gave: class numbers and slots; array classes; addresses of what stood before; where ours begin -/
abbrev gT : Type := va_G × (Nat → ClassId) × (Nat → Nat) × Nat
def gA (G : gT) : Nat → Prop := fun q => G.2.2.2 ≤ q
def al (G : gT) (o : Nat) : Nat := if o < 16 then G.2.2.1 o else G.2.2.2 + (o - 16)
def cv (G : gT) (a : aV) : Value := match a with
  | .inl x => .int x
  | .inr r => va_rf (r.map (al G))
abbrev vi (x : Int32) : aV := .inl x
abbrev vr (o : Nat) : aV := .inr (some o)
abbrev vn : aV := .inr none
def qcl : List vw_C := [(RX0, TX0, 17), (RX2, TX2, 10), (RX3, TX3, 8), (RX4, TX4, 5), (RX5, TX5, 4), (RX6, TX6, 46), (RX7, TX7, 7), (RX9, TX9, 3), (RX10, TX10, 1), (RX11, TX11, 1), (RX13, TX13, 3), (RX14, TX14, 1), (RX15, TX15, 3), (RX17, TX17, 9), (RX18, TX18, 8)]
def tyQ (ci : Nat) : Nat → FieldType := match ci with
  | 0 => tyX0 | 1 => tyX2 | 2 => tyX3 | 3 => tyX4 | 4 => tyX5 | 5 => tyX6 | 6 => tyX7 | 7 => tyX9 | 8 => tyX10 | 9 => tyX11 | 10 => tyX13 | 11 => tyX14 | 12 => tyX15 | 13 => tyX17 | _ => tyX18
def arrTy (t : Nat) : FieldType := match t with
  | 0 => .int | 1 => .byte | 2 => .boolean | 3 => .object "InsuredFlame$Thing" | 4 => .object "InsuredFlame$Sum" | 5 => .object "InsuredFlame$Condition" | _ => .array .boolean
def fvl (G : gT) (ci : Nat) (V : vT) (Rf : rT) (o k : Nat) : Value := if (tyQ ci k).isReference = true then va_rf ((Rf o k).map (al G)) else .int (V o k)
def elv (G : gT) (t : Nat) (V : vT) (Rf : rT) (o j : Nat) : Value := if t < 3 then .int (V o j) else va_rf ((Rf o j).map (al G))
/-- a cell as the names have it; below 16: what stood before, never written -/
def cellP (G : gT) (K : kT) (Rf : rT) (V : vT) (s : State) (H : Heap) (o : Nat) : Prop :=
  if o < 16 then match K o with
    | .inl ci => ci = 99 → va_O "java/lang/String" (al G o) (gA G) s H ∧ va_OF "java/lang/String" "value" "[B" (va_rf ((Rf o 0).map (al G))) (al G o) (gA G) s H ∧ va_OF "java/lang/String" "coder" "B" (.int (V o 1)) (al G o) (gA G) s H
    | .inr (t, len) => va_T (arrTy t) (al G o) len (elv G t V Rf o) (gA G) s H
  else match K o with
    | .inl ci => ∃ r, qcl[ci]? = some r ∧ t_OB (al G o) (G.1.1 ci) r.2.2 (G.1.2 ci) H (fvl G ci V Rf o)
    | .inr (t, len) => t < 7 ∧ H[al G o]? = some (arrV (G.2.1 t) len (elv G t V Rf o))
def Pic (G : gT) (n : Nat) (K : kT) (Rf : rT) (V : vT) (s : State) (H : Heap) : Prop := 16 ≤ n ∧ H.size = G.2.2.2 + (n - 16) ∧ (∀ o, o < n → cellP G K Rf V s H o) ∧ ∀ o, n ≤ o → ∀ j, V o j = 0 ∧ Rf o j = none
def tysQ (G : gT) : List (ClassId × FieldType) := (List.range 7).map fun t => (G.2.1 t, arrTy t)
/-- the words that don't ride in the lists -/
def isNest (w : Cond) : Bool := match w with
  | .fieldLinkNest .. => true
  | .methodLinkNest .. => true
  | .declares _ => true
  | .castable .. => true
  | _ => false
def nestQ : List Cond := lw_tbl.filter isNest
/-- what a state's tables, and what stood in the heap before, give -/
def KKs (G : gT) (s : State) : Prop :=
  va_K G.1 qcl (tysQ G) s ∧ (∀ w ∈ nestQ, va_Nw w s) ∧ (va_AO "InsuredFlame$Thing" s ∧ va_AO "InsuredFlame$Sum" s ∧ va_AO "InsuredFlame$Condition" s) ∧
  (va_Z "InsuredFlame" "OVER" "[I" (.ref (al G 1)) (gA G) s s.heap ∧ va_Z "InsuredFlame" "DOWN" "[I" (.ref (al G 2)) (gA G) s s.heap ∧ va_Z "java/lang/String" "COMPACT_STRINGS" "Z" (.int 1) (gA G) s s.heap) ∧
  (vk_R "InsuredFlame$Reader" 75 "pmnvidgtw" (al G 3) s ∧ vk_R "InsuredFlame$Reader" 129 "bsx" (al G 4) s ∧ vk_R "InsuredFlame$Surveyor" 23 ".#+~" (al G 5) s) ∧ G.2.2.2 ≤ s.heap.size
def lsOK (G : gT) (nL : Nat) (A : Array Slot) (ls : List (Option aV)) : Prop := A.size = nL ∧ ls.length ≤ nL ∧ lv_wf A ∧ ∀ (i : Nat) (v : aV), ls[i]? = some (some v) → A[i]? = some (.val (cv G v))
def QcG (G : gT) (Q : Option aV → Nat → kT → rT → vT → Prop) : Array Value → State → Outcome → State → Prop := fun _ st oc t =>
  (∃ (r : Option aV) (n : Nat) (K : kT) (Rf : rT) (V : vT), oc = .returned (r.map (cv G)) ∧ Q r n K Rf V ∧ Pic G n K Rf V t t.heap) ∧ va_F (gA G) st t
def rmQ (d mc ms : Nat) : Room := { frames := d + 1, cells := mc, slots := ms, locals := 12 + 60 * d }
def PcG (G : gT) (as : List aV) (n : Nat) (K : kT) (Rf : rT) (V : vT) : Array Value → State → Prop := va_Pc (as.map (cv G)) (fun U => KKs G U ∧ Pic G n K Rf V U U.heap)
/-- a method's contract at this entry: it returns, with Q of its answer and the heap's names -/
def MOk (l : Launch) (G : gT) (d : Nat) (y : MethodName) (code : ByteArray) (maxL : Nat) (ret : Option FieldType) (as : List aV) (n : Nat) (K : kT) (Rf : rT) (V : vT) (mc ms : Nat) (Q : Option aV → Nat → kT → rT → vT → Prop) : Prop :=
  Met l y (ws_ y code maxL ret) (rmQ d mc ms) (PcG G as n K Rf V) (QcG G Q) mc ms (gA G)
/-- the machine stands in a method's frame at pc, and comes to its end with Z; R: the room -/
def wp (l : Launch) (G : gT) (R : Room) (own nm : String) (code : ByteArray) (maxL : Nat) (ret : Option FieldType) (Z : List Frame → Array Value → State → State → Prop)
    (pc : Nat) (ls : List (Option aV)) (st : List aV) (n : Nat) (K : kT) (Rf : rT) (V : vT) (ca sa : Nat) : Prop :=
  ∀ (p : Program) (e : Env) (s : State) (m : MethodId) (args : Array Value) (below : List Frame) (meth : Method) (c : Code) (H : Heap) (locs : List Loc) (A : Array Slot),
    p.tables.exec = Jvm.exec → c.code = code → meth.sig.returnType = ret → c.maxLocals = maxL → meth.locks = false → s.vm.findClass own = some m.cls → meth.name = nm →
    (∀ w ∈ lw_all, w.before args s = true) → KKs G s → Pic G n K Rf V s H → va_S (gA G) s.heap H locs → lsOK G maxL A ls →
    W p l e R s m args below meth c H locs ca sa (Z below args s) (F0 m pc A (st.map (cv G)))
/-- the end of a method: its contract's -/
def Zm (G : gT) (mc ms : Nat) (Q : Option aV → Nat → kT → rT → vT → Prop) : List Frame → Array Value → State → State → Prop := fun below args s => MQ below (QcG G Q) args s mc ms (gA G)
theorem cellP.moved {G : gT} {K : kT} {Rf : rT} {V : vT} {s U : State} {H : Heap} {o : Nat} (hvm : s.vm.Alike U.vm) (h : cellP G K Rf V s H o) : cellP G K Rf V U H o := by
  unfold cellP at h ⊢
  by_cases ho : o < 16
  · rw [if_pos ho] at h ⊢
    cases hk : K o with
    | inl ci => rw [hk] at h; exact fun e => ⟨(h e).1.moved hvm, (h e).2.1.moved hvm, (h e).2.2.moved hvm⟩
    | inr q => rw [hk] at h; exact va_T.moved hvm h
  · rw [if_neg ho] at h ⊢
    exact h
theorem al_ge {G : gT} {o : Nat} (ho : ¬ o < 16) : G.2.2.2 ≤ al G o := by unfold al; rw [if_neg ho]; omega
theorem al_inj {G : gT} {o o' : Nat} (ho : ¬ o < 16) (ho' : ¬ o' < 16) (h : al G o = al G o') : o = o' := by
  unfold al at h; rw [if_neg ho, if_neg ho'] at h; omega
theorem cellP.kept {G : gT} {K : kT} {Rf : rT} {V : vT} {s : State} {H H1 : Heap} {o : Nat} (h : cellP G K Rf V s H o) (hq : o < 16 → ∀ a : Nat, a < H.size → ¬ gA G a → H1[a]? = H[a]?) (hr : ¬ o < 16 → H1[al G o]? = H[al G o]?) : cellP G K Rf V s H1 o := by
  unfold cellP at h ⊢
  by_cases ho : o < 16
  · rw [if_pos ho] at h ⊢
    have hq := hq ho
    cases hk : K o with
    | inl ci => rw [hk] at h; exact fun e => ⟨(h e).1.kept hq, (h e).2.1.kept hq, (h e).2.2.kept hq⟩
    | inr q => rw [hk] at h; exact va_T.kept h hq
  · rw [if_neg ho] at h ⊢
    have hr := hr ho
    cases hk : K o with
    | inl ci => rw [hk] at h; obtain ⟨r, h1, h2⟩ := h; exact ⟨r, h1, h2.kept hr⟩
    | inr q => rw [hk] at h; exact ⟨h.1, hr.trans h.2⟩
/-- the cell's names changed where it doesn't look -/
theorem cellP.names {G : gT} {K K' : kT} {Rf Rf' : rT} {V V' : vT} {s : State} {H : Heap} {o : Nat} (h : cellP G K Rf V s H o) (hK : K' o = K o) (hR : ∀ j, Rf' o j = Rf o j) (hV : ∀ j, V' o j = V o j) : cellP G K' Rf' V' s H o := by
  have e1 : fvl G = fvl G := rfl
  have f1 : ∀ ci, fvl G ci V' Rf' o = fvl G ci V Rf o := fun ci => by funext k; simp only [fvl, hR, hV]
  have f2 : ∀ t, elv G t V' Rf' o = elv G t V Rf o := fun t => by funext k; simp only [elv, hR, hV]
  unfold cellP at h ⊢
  simp only [hK, f1, f2, hR, hV]
  exact h
theorem Pic.moved {G : gT} {n : Nat} {K : kT} {Rf : rT} {V : vT} {s U : State} {H : Heap} (hvm : s.vm.Alike U.vm) (h : Pic G n K Rf V s H) : Pic G n K Rf V U H := ⟨h.1, h.2.1, fun o ho => (h.2.2.1 o ho).moved hvm, h.2.2.2⟩
theorem nest_warm {w : Cond} {s U : State} (hn : isNest w = true) (hW : s.WarmedH U.vm) (h : va_Nw w s) : va_Nw w U := by
  cases w <;> first | exact va_Nw.warmF hW h | exact va_Nw.warmM hW h | exact va_Nw.warmD hW h | exact va_Nw.warmC hW h | (simp [isNest] at hn)
theorem nest_is {w : Cond} (h : w ∈ nestQ) : isNest w = true := (List.mem_filter.mp h).2
theorem KKs.warm {G : gT} {s U : State} {locs : List Loc} (hW : s.WarmedH U.vm) (hS : va_S (gA G) s.heap U.heap locs) (h : KKs G s) : KKs G U := by
  obtain ⟨h1, h2, ⟨a1, a2, a3⟩, ⟨z1, z2, z3⟩, ⟨r1, r2, r3⟩, hz⟩ := h
  have hvm := hW.alike
  exact ⟨va_K.moved hvm h1, fun w hw => nest_warm (nest_is hw) hW (h2 w hw), ⟨a1.moved hvm, a2.moved hvm, a3.moved hvm⟩, ⟨(z1.moved hvm).kept hS.2.1, (z2.moved hvm).kept hS.2.1, (z3.moved hvm).kept hS.2.1⟩, ⟨vk_R.warm hW r1, vk_R.warm hW r2, vk_R.warm hW r3⟩, Nat.le_trans hz hS.1⟩
theorem nest_tabs {w : Cond} (h : isNest w = true) : w.onTables = true := by
  cases w <;> first | rfl | (simp [isNest] at h)
theorem KKs.calling {G : gT} {U : State} {g : JFrame} {mk : MethodId} {a : Array Value} (h : KKs G U) : KKs G (U.calling g mk a) := by
  obtain ⟨h1, h2, ⟨a1, a2, a3⟩, ⟨z1, z2, z3⟩, ⟨r1, r2, r3⟩, hz⟩ := h
  have hvm : U.vm.Alike (U.calling g mk a).vm := Vm.Alike.refl U.vm
  exact ⟨va_K.moved hvm h1, fun w hw => va_Nw.same (nest_tabs (nest_is hw)) (u := U) rfl (h2 w hw), ⟨a1.moved hvm, a2.moved hvm, a3.moved hvm⟩, ⟨va_Z.moved (u := U) hvm z1, va_Z.moved (u := U) hvm z2, va_Z.moved (u := U) hvm z3⟩, ⟨vk_R.same (u := U) rfl r1, vk_R.same (u := U) rfl r2, vk_R.same (u := U) rfl r3⟩, hz⟩
theorem PcG.blind {G : gT} {as : List aV} {n : Nat} {K : kT} {Rf : rT} {V : vT} : FrameBlind (PcG G as n K Rf V) := by
  intro a U g mk h
  obtain ⟨h1, h2, h3⟩ := h
  exact ⟨h1, h2.calling, Pic.moved (s := U) (U := U.calling g mk a) (Vm.Alike.refl U.vm) h3⟩
