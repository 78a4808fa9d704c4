/-! CORE 3: the heap's rows -/
def up2 {α : Type} (f : Nat → Nat → α) (o k : Nat) (v : α) : Nat → Nat → α := fun a b => if a = o ∧ b = k then v else f a b
theorem up2_s {α : Type} (f : Nat → Nat → α) (o k : Nat) (v : α) : up2 f o k v o k = v := by simp [up2]
theorem up2_o {α : Type} (f : Nat → Nat → α) {o k a b : Nat} {v : α} (h : a ≠ o) : up2 f o k v a b = f a b := by simp [up2, h]
theorem up2_k {α : Type} (f : Nat → Nat → α) {o k a b : Nat} {v : α} (h : b ≠ k) : up2 f o k v a b = f a b := by simp [up2, h]
/-- field k of an object of class ci is what this class's entry ix names -/
def FLk (own : String) (ix ci k : Nat) : Prop := ∃ (C : String) (T : u_T) (N : Nat), qcl[ci]? = some (C, T, N) ∧ k < N ∧ (∀ w ∈ u_ws C T N, w ∈ lw_all) ∧ (∀ j, j < N → parseFieldDescriptor (T j).2.2.1 = some (tyQ ci j)) ∧
  (Cond.fieldLink own ix (T k).1 (T k).2.1 (T k).2.2.1 ∈ lw_all ∨ ∃ host, Cond.fieldLinkNest own ix (T k).1 (T k).2.1 (T k).2.2.1 host ∈ nestQ)
/-- it may be written here, and its slot is its own -/
def FPk (own nm : String) (ix ci k : Nat) : Prop := ∃ (C : String) (T : u_T) (N : Nat), qcl[ci]? = some (C, T, N) ∧ k < N ∧ (∀ w ∈ u_ws C T N, w ∈ lw_all) ∧ (∀ j, j < N → parseFieldDescriptor (T j).2.2.1 = some (tyQ ci j)) ∧
  (((T k).2.2.2 = false ∧ (Cond.fieldLink own ix (T k).1 (T k).2.1 (T k).2.2.1 ∈ lw_all ∨ ∃ host, Cond.fieldLinkNest own ix (T k).1 (T k).2.1 (T k).2.2.1 host ∈ nestQ)) ∨
   ((T k).2.2.2 = true ∧ nm = "<init>" ∧ (T k).1 = own ∧ Cond.fieldLink own ix (T k).1 (T k).2.1 (T k).2.2.1 ∈ lw_all)) ∧
  ∀ j, j < N → j ≠ k → (T j).2.1 ≠ (T k).2.1
theorem Pic.put {G : gT} {n : Nat} {K : kT} {Rf Rf' : rT} {V V' : vT} {s : State} {H H1 : Heap} {o : Nat} (hP : Pic G n K Rf V s H) (hon : o < n) (ho : ¬ o < 16) (hz : H1.size = H.size) (oq : ∀ q : Nat, q ≠ al G o → H1[q]? = H[q]?) (hc : cellP G K Rf' V' s H1 o) (hR : ∀ a, a ≠ o → ∀ j, Rf' a j = Rf a j) (hV : ∀ a, a ≠ o → ∀ j, V' a j = V a j) : Pic G n K Rf' V' s H1 := by
  refine ⟨hP.1, hz.trans hP.2.1, fun a ha => ?_, fun a ha j => by rw [hV a (by omega), hR a (by omega)]; exact hP.2.2.2 a ha j⟩
  by_cases hao : a = o
  · subst hao; exact hc
  · exact ((hP.2.2.1 a ha).kept (fun _ q _ hg => oq q (fun h => hg (by rw [h]; exact al_ge ho))) (fun ha16 => oq _ (fun h => hao (al_inj ha16 ho h)))).names rfl (hR a hao) (hV a hao)
theorem Pic.obj {G : gT} {n : Nat} {K : kT} {Rf : rT} {V : vT} {s : State} {H : Heap} {o ci : Nat} (hP : Pic G n K Rf V s H) (ho : o < n) (h16 : ¬ o < 16) (hk : K o = .inl ci) : ∃ r, qcl[ci]? = some r ∧ t_OB (al G o) (G.1.1 ci) r.2.2 (G.1.2 ci) H (fvl G ci V Rf o) := by
  have h := hP.2.2.1 o ho
  unfold cellP at h
  rw [if_neg h16, hk] at h
  exact h
theorem Pic.arr {G : gT} {n : Nat} {K : kT} {Rf : rT} {V : vT} {s : State} {H : Heap} {o t len : Nat} (hP : Pic G n K Rf V s H) (ho : o < n) (h16 : ¬ o < 16) (hk : K o = .inr (t, len)) : t < 7 ∧ H[al G o]? = some (arrV (G.2.1 t) len (elv G t V Rf o)) := by
  have h := hP.2.2.1 o ho
  unfold cellP at h
  rw [if_neg h16, hk] at h
  exact h
theorem KKs.arrOf {G : gT} {s : State} {t : Nat} (h : KKs G s) (ht : t < 7) : ArrOfT s (G.2.1 t) (arrTy t) ∧ va_RA s (G.2.1 t) (arrTy t) :=
  h.1.2 t (G.2.1 t, arrTy t) (by unfold tysQ; rw [List.getElem?_map, List.getElem?_range ht]; rfl)
/-- an array, whether ours or one that stood before -/
theorem Pic.arrR {G : gT} {n : Nat} {K : kT} {Rf : rT} {V : vT} {s : State} {H : Heap} {o t len : Nat} (hKK : KKs G s) (hP : Pic G n K Rf V s H) (ho : o < n) (hk : K o = .inr (t, len)) :
    ∃ cell : Cell, H[al G o]? = some cell ∧ s.isArrayOf cell (arrTy t) ∧ cell.vm ≠ .unknown ∧ len ≤ cell.slots.size ∧ cell.slots.size.toInt32 = Int32.ofNat len ∧ ∀ j, j < len → cell.slots[j]? = some (elv G t V Rf o j) := by
  by_cases h16 : o < 16
  · have h := hP.2.2.1 o ho
    unfold cellP at h
    rw [if_pos h16, hk] at h
    obtain ⟨cell, h1, h2, h3, h4, h5, h6, h7⟩ := h
    exact ⟨cell, h1, h2, h3, h4, h5, h6⟩
  · obtain ⟨ht, h⟩ := hP.arr ho h16 hk
    exact ⟨_, h, (hKK.arrOf ht).1 len _, fun q => by (cases q), Nat.le_of_eq (arrV_size _ _ _).symm, by rw [arrV_size] <;> rfl, fun j hj => arrV_read _ _ hj⟩
theorem vp_in.nat {x : Int32} {n : Nat} (h : vp_in x n) : ¬ x < 0 ∧ x.toNatClampNeg < n := ⟨fun q => h (Or.inl q), Nat.not_le.mp fun q => h (Or.inr q)⟩
section QO
variable {p : Program} {l : Launch} {e : Env} {R : Room} {s : State} {m : MethodId} {args : Array Value} {below : List Frame} {meth : Method} {c : Code} {H : Heap} {locs : List Loc} {cells slots : Nat} {Q : State → Prop}
variable {cc : ByteArray} {pc : Nat} {ls : Array Slot} {rest : List Value} {G : gT}
theorem W_getOB (hexec : p.tables.exec = Jvm.exec) (hb : c.code = cc) {own C : String} {T : u_T} {N ci k ix a : Nat} {f : Nat → Value} (hts : ∀ w ∈ lw_all, w.before args s = true) (hKK : KKs G s) (hown : s.vm.findClass own = some m.cls) (hc : qcl[ci]? = some (C, T, N)) (hk : k < N) (hin : ∀ w ∈ u_ws C T N, w ∈ lw_all)
    (hlink : Cond.fieldLink own ix (T k).1 (T k).2.1 (T k).2.2.1 ∈ lw_all ∨ ∃ host, Cond.fieldLinkNest own ix (T k).1 (T k).2.1 (T k).2.2.1 host ∈ nestQ) (hOB : t_OB a (G.1.1 ci) N (G.1.2 ci) H f) (hdg : decode cc pc = .ok (.getfield ix, 3))
    (kk : W p l e R s m args below meth c H locs cells slots Q (F0 m (pc + 3) ls (f k :: rest))) : W p l e R s m args below meth c H locs cells slots Q (F0 m pc ls (.ref a :: rest)) := by
  obtain ⟨cell, q1, q2, q3, q4⟩ := hOB
  obtain ⟨hS, hfc, kC, hkC, hkind⟩ := hKK.1.1 ci _ hc
  obtain ⟨cf, kf, fi, fd, hi, hsl⟩ := hS k hk
  have hv : cell.slots[fd.slot]? = some (f k) := by rw [hsl, q4 k hk]
  have hst := (u_facts hfc hkC (u_lays hts hin hk) hi).1
  rcases hlink with hlink | ⟨host, hlink⟩
  · exact W.getf hexec hb hown (hts _ hlink) hi hst q1 (by rw [q3]; exact fun h => by cases h) hv rfl rfl hdg kk
  · exact va_Wgetf hexec hb hown (va_Nw.use rfl (hKK.2.1 _ hlink)) hi hst q1 (by rw [q3]; exact fun h => by cases h) hv rfl rfl hdg kk
theorem W_putOB (hexec : p.tables.exec = Jvm.exec) (hb : c.code = cc) {own : String} {ci k ix a : Nat} {f : Nat → Value} {v : Value} {r : vw_C} (hts : ∀ w ∈ lw_all, w.before args s = true) (hKK : KKs G s) (hown : s.vm.findClass own = some m.cls) (hF : FPk own meth.name ix ci k) (hr : qcl[ci]? = some r) (hOB : t_OB a (G.1.1 ci) r.2.2 (G.1.2 ci) H f) (hn : narrow (tyQ ci k) v = v) (hfit : fits (tyQ ci k) v = true) (hdg : decode cc pc = .ok (.putfield ix, 3))
    (kk : ∀ (H' : Heap) (L : List Loc), (∃ i, L = [⟨a, i⟩]) → t_OB a (G.1.1 ci) r.2.2 (G.1.2 ci) H' (updV f k v) → H'.size = H.size → (∀ q : Nat, q ≠ a → H'[q]? = H[q]?) → W p l e R s m args below meth c H' (locs ++ L) cells slots Q (F0 m (pc + 3) ls rest)) : W p l e R s m args below meth c H locs cells slots Q (F0 m pc ls (v :: .ref a :: rest)) := by
  obtain ⟨C, T, N, hc, hk, hin, hty, hlink, hap⟩ := hF
  cases hr.symm.trans hc
  obtain ⟨cell, q1, q2, q3, q4⟩ := hOB
  obtain ⟨hS, hfc, kC, hkC, hkind⟩ := hKK.1.1 ci _ hc
  obtain ⟨cf, kf, fi, fd, hi, hsl⟩ := hS k hk
  have hst := (u_facts hfc hkC (u_lays hts hin hk) hi).1
  have hdiff : ∀ j, j < N → j ≠ k → (G.1.2 ci) k ≠ (G.1.2 ci) j := by
    intro j hj hne
    obtain ⟨_, _, _, fj, hij, ej⟩ := hS j hj
    rw [← hsl, ← ej]
    refine u_apart (u_lays hts hin hk) (u_lays hts hin hj) hi hij ?_
    rw [(State.fieldFound?_type hi (hty k hk)).1, (State.fieldFound?_type hij (hty j hj)).1]
    exact Ne.symm (hap j hj hne)
  have hset : ∀ j, j < N → (cell.setSlot (G.1.2 ci k) v).slots[G.1.2 ci j]? = some (updV f k v j) := by
    intro j hj
    by_cases hjk : j = k
    · subst hjk
      rw [Cell.slots_setSlot_self _ (k2_hasslot (q4 j hj))]
      simp [updV]
    · rw [slot_ne _ _ (hdiff j hj hjk), q4 j hj]
      simp [updV, hjk]
  have key : ∀ H' : Heap, H'[a]? = some (cell.setSlot fd.slot v) → H'.size = H.size → (∀ q : Nat, q ≠ a → H'[q]? = H[q]?) → W p l e R s m args below meth c H' (locs ++ [⟨a, fd.slot⟩]) cells slots Q (F0 m (pc + 3) ls rest) :=
    fun H' e1 e2 e3 => kk H' _ ⟨_, rfl⟩ ⟨_, e1, q2, q3, by rw [hsl]; exact hset⟩ e2 e3
  rcases hlink with ⟨hfin, hlink⟩ | ⟨hfin, hinit, hdecl, hlink⟩
  · have hlay := hts _ (hin _ (u_in_lay hk))
    unfold u_lay at hlay
    rw [if_neg (by rw [hfin]; decide)] at hlay
    have h6 := u_store hfc hkC hkind hlay hi (hty k hk) hn hfit
    rcases hlink with hlink | ⟨host, hlink⟩
    · exact W.putK hexec hb (f := fd) ⟨hown, hts _ hlink, ⟨_, _, _, hi⟩, hst⟩ (by rw [q2]; exact h6) q1 q3 (by rw [hsl]; exact k2_hasslot (q4 k hk)) rfl rfl hdg key
    · exact va_WputK hexec hb (f := fd) hown (va_Nw.use rfl (hKK.2.1 _ hlink)) hi hst (by rw [q2]; exact h6) q1 q3 (by rw [hsl]; exact k2_hasslot (q4 k hk)) rfl rfl hdg key
  · have hlay := hts _ (hin _ (u_in_lay hk))
    unfold u_lay at hlay
    rw [if_pos hfin] at hlay
    have hcf : m.cls = cf := by
      obtain ⟨_, _, c', _, _, _, -, -, hf', -, -, -, hown2, -⟩ := Cond.laysFinal_spec hlay
      have e1 : c' = cf := by have := hi.symm.trans hf'; simp at this; exact this.1.symm
      rw [hdecl] at hown2
      rw [← e1]; exact Option.some.inj (hown.symm.trans hown2)
    exact W.putFinK hexec hb hown (hts _ hlink) hi hst hcf hinit (by rw [q2]; exact u_fits hfc hkC hkind (Or.inr hlay) hi (hty k hk) hn hfit) q1 q3 (by rw [hsl]; exact k2_hasslot (q4 k hk)) rfl rfl hdg key
end QO
section QH
variable {l : Launch} {G : gT} {R : Room} {own nm : String} {code : ByteArray} {maxL : Nat} {ret : Option FieldType} {Z : List Frame → Array Value → State → State → Prop} {pc : Nat} {ls : List (Option aV)} {st : List aV} {n : Nat} {K : kT} {Rf : rT} {V : vT} {ca sa : Nat}
theorem wp_geti {ix o : Nat} {ci k : Nat} (hdg : decode code pc = .ok (.getfield ix, 3)) (hf : FLk own ix ci k) (ho : 16 ≤ o ∧ o < n) (hk : K o = .inl ci) (hty : (tyQ ci k).isReference = false) (kk : wp l G R own nm code maxL ret Z (pc + 3) ls (.inl (V o k) :: st) n K Rf V ca sa) : wp l G R own nm code maxL ret Z pc ls (.inr (some o) :: st) n K Rf V ca sa := by
  intro p e s m args below meth c H locs A hx hb hr hml hlk hown hnm hts hKK hP hS hl
  obtain ⟨C, T, N, hc, hkN, hin, -, hlink⟩ := hf
  obtain ⟨r, h1, h2⟩ := hP.obj ho.2 (by omega) hk
  cases hc.symm.trans h1
  refine W_getOB hx hb hts hKK hown hc hkN hin hlink h2 hdg ?_
  have e1 : fvl G ci V Rf o k = cv G (.inl (V o k)) := by unfold fvl; rw [hty]; rfl
  rw [e1]
  exact kk p e s m args below meth c H locs A hx hb hr hml hlk hown hnm hts hKK hP hS hl
theorem wp_getr {ix o : Nat} {ci k : Nat} (hdg : decode code pc = .ok (.getfield ix, 3)) (hf : FLk own ix ci k) (ho : 16 ≤ o ∧ o < n) (hk : K o = .inl ci) (hty : (tyQ ci k).isReference = true) (kk : wp l G R own nm code maxL ret Z (pc + 3) ls (.inr (Rf o k) :: st) n K Rf V ca sa) : wp l G R own nm code maxL ret Z pc ls (.inr (some o) :: st) n K Rf V ca sa := by
  intro p e s m args below meth c H locs A hx hb hr hml hlk hown hnm hts hKK hP hS hl
  obtain ⟨C, T, N, hc, hkN, hin, -, hlink⟩ := hf
  obtain ⟨r, h1, h2⟩ := hP.obj ho.2 (by omega) hk
  cases hc.symm.trans h1
  refine W_getOB hx hb hts hKK hown hc hkN hin hlink h2 hdg ?_
  have e1 : fvl G ci V Rf o k = cv G (.inr (Rf o k)) := by unfold fvl; rw [hty]; rfl
  rw [e1]
  exact kk p e s m args below meth c H locs A hx hb hr hml hlk hown hnm hts hKK hP hS hl
theorem wp_puti {ix o : Nat} {ci k : Nat} {x : Int32} (hdg : decode code pc = .ok (.putfield ix, 3)) (hf : FPk own nm ix ci k) (ho : 16 ≤ o ∧ o < n) (hk : K o = .inl ci) (hty0 : tyQ ci k = .int) (kk : wp l G R own nm code maxL ret Z (pc + 3) ls st n K Rf (up2 V o k x) ca sa) : wp l G R own nm code maxL ret Z pc ls (.inl x :: .inr (some o) :: st) n K Rf V ca sa := by
  intro p e s m args below meth c H locs A hx hb hr hml hlk hown hnm hts hKK hP hS hl
  subst hnm
  obtain ⟨r9, h1, h2⟩ := hP.obj ho.2 (by omega) hk
  have hty : (tyQ ci k).isReference = false := by rw [hty0]; rfl
  have hn1 : narrow (tyQ ci k) (cv G (.inl x)) = cv G (.inl x) := by rw [hty0]; rfl
  have hn2 : fits (tyQ ci k) (cv G (.inl x)) = true := by rw [hty0]; rfl
  refine W_putOB (v := cv G (.inl x)) hx hb hts hKK hown hf h1 h2 hn1 hn2 hdg fun H1 L hL e1 e2 e3 => ?_
  obtain ⟨i9, rfl⟩ := hL
  have hS1 := hS.put (k := i9) e2 e3 (al_ge (by omega))
  have hP1 : Pic G n K Rf (up2 V o k x) s H1 := by
    refine hP.put (o := o) ho.2 (by omega) e2 e3 ?_ (fun a ha j => ?_) (fun a ha j => ?_)
    · unfold cellP
      rw [if_neg (by omega), hk]
      refine ⟨r9, h1, e1.to fun j hj => ?_⟩
      unfold fvl updV
      by_cases hjk : j = k
      · subst hjk; simp only [if_true, up2_s]; first | rw [if_neg (by rw [hty]; decide)]; rfl | rw [if_pos hty]; rfl
      · rw [if_neg hjk]; simp only [up2_k _ hjk]
    · first | rfl | exact up2_o _ ha
    · first | rfl | exact up2_o _ ha
  exact kk p e s m args below meth c H1 _ A hx hb hr hml hlk hown rfl hts hKK hP1 hS1 hl
theorem wp_putz {ix o : Nat} {ci k : Nat} {x : Int32} (hdg : decode code pc = .ok (.putfield ix, 3)) (hf : FPk own nm ix ci k) (ho : 16 ≤ o ∧ o < n) (hk : K o = .inl ci) (hty0 : tyQ ci k = .boolean) (hz : x = 0 ∨ x = 1) (kk : wp l G R own nm code maxL ret Z (pc + 3) ls st n K Rf (up2 V o k x) ca sa) : wp l G R own nm code maxL ret Z pc ls (.inl x :: .inr (some o) :: st) n K Rf V ca sa := by
  intro p e s m args below meth c H locs A hx hb hr hml hlk hown hnm hts hKK hP hS hl
  subst hnm
  obtain ⟨r9, h1, h2⟩ := hP.obj ho.2 (by omega) hk
  have hty : (tyQ ci k).isReference = false := by rw [hty0]; rfl
  have hn1 : narrow (tyQ ci k) (cv G (.inl x)) = cv G (.inl x) := by rw [hty0]; rcases hz with rfl | rfl <;> rfl
  have hn2 : fits (tyQ ci k) (cv G (.inl x)) = true := by rw [hty0]; rcases hz with rfl | rfl <;> rfl
  refine W_putOB (v := cv G (.inl x)) hx hb hts hKK hown hf h1 h2 hn1 hn2 hdg fun H1 L hL e1 e2 e3 => ?_
  obtain ⟨i9, rfl⟩ := hL
  have hS1 := hS.put (k := i9) e2 e3 (al_ge (by omega))
  have hP1 : Pic G n K Rf (up2 V o k x) s H1 := by
    refine hP.put (o := o) ho.2 (by omega) e2 e3 ?_ (fun a ha j => ?_) (fun a ha j => ?_)
    · unfold cellP
      rw [if_neg (by omega), hk]
      refine ⟨r9, h1, e1.to fun j hj => ?_⟩
      unfold fvl updV
      by_cases hjk : j = k
      · subst hjk; simp only [if_true, up2_s]; first | rw [if_neg (by rw [hty]; decide)]; rfl | rw [if_pos hty]; rfl
      · rw [if_neg hjk]; simp only [up2_k _ hjk]
    · first | rfl | exact up2_o _ ha
    · first | rfl | exact up2_o _ ha
  exact kk p e s m args below meth c H1 _ A hx hb hr hml hlk hown rfl hts hKK hP1 hS1 hl
theorem wp_putr {ix o : Nat} {ci k : Nat} {r : Option Nat} (hdg : decode code pc = .ok (.putfield ix, 3)) (hf : FPk own nm ix ci k) (ho : 16 ≤ o ∧ o < n) (hk : K o = .inl ci) (hty : (tyQ ci k).isReference = true) (kk : wp l G R own nm code maxL ret Z (pc + 3) ls st n K (up2 Rf o k r) V ca sa) : wp l G R own nm code maxL ret Z pc ls (.inr r :: .inr (some o) :: st) n K Rf V ca sa := by
  intro p e s m args below meth c H locs A hx hb hr hml hlk hown hnm hts hKK hP hS hl
  subst hnm
  obtain ⟨r9, h1, h2⟩ := hP.obj ho.2 (by omega) hk
  have hn1 : narrow (tyQ ci k) (cv G (.inr r)) = cv G (.inr r) := by
    cases h9 : tyQ ci k <;> first | (cases r <;> rfl) | (rw [h9] at hty; cases hty)
  have hn2 : fits (tyQ ci k) (cv G (.inr r)) = true := by
    cases h9 : tyQ ci k <;> first | (cases r <;> rfl) | (rw [h9] at hty; cases hty)
  refine W_putOB (v := cv G (.inr r)) hx hb hts hKK hown hf h1 h2 hn1 hn2 hdg fun H1 L hL e1 e2 e3 => ?_
  obtain ⟨i9, rfl⟩ := hL
  have hS1 := hS.put (k := i9) e2 e3 (al_ge (by omega))
  have hP1 : Pic G n K (up2 Rf o k r) V s H1 := by
    refine hP.put (o := o) ho.2 (by omega) e2 e3 ?_ (fun a ha j => ?_) (fun a ha j => ?_)
    · unfold cellP
      rw [if_neg (by omega), hk]
      refine ⟨r9, h1, e1.to fun j hj => ?_⟩
      unfold fvl updV
      by_cases hjk : j = k
      · subst hjk; simp only [if_true, up2_s]; first | rw [if_neg (by rw [hty]; decide)]; rfl | rw [if_pos hty]; rfl
      · rw [if_neg hjk]; simp only [up2_k _ hjk]
    · first | rfl | exact up2_o _ ha
    · first | rfl | exact up2_o _ ha
  exact kk p e s m args below meth c H1 _ A hx hb hr hml hlk hown rfl hts hKK hP1 hS1 hl
theorem wp_iald {o len : Nat} {x : Int32} (hdg : decode code pc = .ok (.iaload, 1)) (ho : o < n) (hk : K o = .inr (0, len)) (hin : vp_in x len) (kk : wp l G R own nm code maxL ret Z (pc + 1) ls (.inl (V o x.toNatClampNeg) :: st) n K Rf V ca sa) : wp l G R own nm code maxL ret Z pc ls (.inl x :: .inr (some o) :: st) n K Rf V ca sa := by
  intro p e s m args below meth c H locs A hx hb hr hml hlk hown hnm hts hKK hP hS hl
  obtain ⟨cell, h1, h2, h3, h4, h5, h6⟩ := hP.arrR hKK ho hk
  have hi := hin.nat
  exact W.iald (v := .int (V o x.toNatClampNeg)) hx hb h1 h2 h3 (fun q => by rcases q with q | q; exact hi.1 q; omega) (h6 _ hi.2) rfl rfl hdg (kk p e s m args below meth c H locs A hx hb hr hml hlk hown hnm hts hKK hP hS hl)
theorem wp_bald {o len : Nat} {x : Int32} (hdg : decode code pc = .ok (.baload, 1)) (ho : o < n) (hk : K o = .inr (1, len)) (hin : vp_in x len) (kk : wp l G R own nm code maxL ret Z (pc + 1) ls (.inl (V o x.toNatClampNeg) :: st) n K Rf V ca sa) : wp l G R own nm code maxL ret Z pc ls (.inl x :: .inr (some o) :: st) n K Rf V ca sa := by
  intro p e s m args below meth c H locs A hx hb hr hml hlk hown hnm hts hKK hP hS hl
  obtain ⟨cell, h1, h2, h3, h4, h5, h6⟩ := hP.arrR hKK ho hk
  have hi := hin.nat
  exact W.bald (v := .int (V o x.toNatClampNeg)) hx hb h1 h2 h3 (fun q => by rcases q with q | q; exact hi.1 q; omega) (h6 _ hi.2) rfl rfl hdg (kk p e s m args below meth c H locs A hx hb hr hml hlk hown hnm hts hKK hP hS hl)
theorem wp_zald {o len : Nat} {x : Int32} (hdg : decode code pc = .ok (.baload, 1)) (ho : o < n) (hk : K o = .inr (2, len)) (hin : vp_in x len) (kk : wp l G R own nm code maxL ret Z (pc + 1) ls (.inl (V o x.toNatClampNeg) :: st) n K Rf V ca sa) : wp l G R own nm code maxL ret Z pc ls (.inl x :: .inr (some o) :: st) n K Rf V ca sa := by
  intro p e s m args below meth c H locs A hx hb hr hml hlk hown hnm hts hKK hP hS hl
  obtain ⟨cell, h1, h2, h3, h4, h5, h6⟩ := hP.arrR hKK ho hk
  have hi := hin.nat
  exact W.zald (v := .int (V o x.toNatClampNeg)) hx hb h1 h2 h3 (fun q => by rcases q with q | q; exact hi.1 q; omega) (h6 _ hi.2) rfl rfl hdg (kk p e s m args below meth c H locs A hx hb hr hml hlk hown hnm hts hKK hP hS hl)
theorem wp_aald {o len t : Nat} {x : Int32} (hdg : decode code pc = .ok (.aaload, 1)) (ho : o < n) (hk : K o = .inr (t, len)) (ht : ¬ t < 3) (hin : vp_in x len) (kk : wp l G R own nm code maxL ret Z (pc + 1) ls (.inr (Rf o x.toNatClampNeg) :: st) n K Rf V ca sa) : wp l G R own nm code maxL ret Z pc ls (.inl x :: .inr (some o) :: st) n K Rf V ca sa := by
  intro p e s m args below meth c H locs A hx hb hr hml hlk hown hnm hts hKK hP hS hl
  obtain ⟨cell, h1, h2, h3, h4, h5, h6⟩ := hP.arrR hKK ho hk
  have hi := hin.nat
  have h7 := h6 _ hi.2
  have hre : (arrTy t).isReference = true := by unfold arrTy; split <;> first | rfl | (exfalso; omega)
  unfold elv at h7
  rw [if_neg ht] at h7
  exact W.aald (v := cv G (.inr (Rf o x.toNatClampNeg))) hx hb h1 h2 hre h3 (fun q => by rcases q with q | q; exact hi.1 q; omega) h7 rfl rfl hdg (kk p e s m args below meth c H locs A hx hb hr hml hlk hown hnm hts hKK hP hS hl)
theorem wp_alen {o len t : Nat} (hdg : decode code pc = .ok (.arraylength, 1)) (ho : o < n) (hk : K o = .inr (t, len)) (kk : wp l G R own nm code maxL ret Z (pc + 1) ls (.inl (nI len) :: st) n K Rf V ca sa) : wp l G R own nm code maxL ret Z pc ls (.inr (some o) :: st) n K Rf V ca sa := by
  intro p e s m args below meth c H locs A hx hb hr hml hlk hown hnm hts hKK hP hS hl
  obtain ⟨cell, h1, h2, h3, h4, h5, h6⟩ := hP.arrR hKK ho hk
  exact W.alen hx hb h1 h2 h5 rfl rfl hdg (kk p e s m args below meth c H locs A hx hb hr hml hlk hown hnm hts hKK hP hS hl)
theorem wp_iast {o len : Nat} {x y : Int32} (hdg : decode code pc = .ok (.iastore, 1)) (ho : 16 ≤ o ∧ o < n) (hk : K o = .inr (0, len)) (hin : vp_in x len) (kk : wp l G R own nm code maxL ret Z (pc + 1) ls st n K Rf (up2 V o x.toNatClampNeg y) ca sa) : wp l G R own nm code maxL ret Z pc ls (.inl y :: .inl x :: .inr (some o) :: st) n K Rf V ca sa := by
  intro p e s m args below meth c H locs A hx hb hr hml hlk hown hnm hts hKK hP hS hl
  obtain ⟨ht7, h1⟩ := hP.arr ho.2 (by omega) hk
  have hi := hin.nat
  have h2 := (hKK.arrOf ht7).1 len (elv G 0 V Rf o)
  refine W.iast hx hb h1 h2 (fun q => by (cases q)) (by rw [arrV_size]; exact hin) rfl rfl hdg fun H1 e1 e2 e3 => ?_
  have hS1 := hS.put (k := x.toNatClampNeg) e2 e3 (al_ge (by omega))
  have hP1 : Pic G n K Rf (up2 V o x.toNatClampNeg y) s H1 := by
    refine hP.put (o := o) ho.2 (by omega) e2 e3 ?_ (fun a ha j => rfl) (fun a ha j => up2_o _ ha)
    unfold cellP
    rw [if_neg (by omega), hk]
    refine ⟨ht7, ?_⟩
    rw [e1, arrV_store]
    congr 2
    funext q
    by_cases hq : q = x.toNatClampNeg
    · subst hq
      simp [updV, elv, up2_s]
    · simp [updV, hq, elv, up2_k _ hq]
  exact kk p e s m args below meth c H1 _ A hx hb hr hml hlk hown hnm hts hKK hP1 hS1 hl
theorem wp_bast {o len : Nat} {x y : Int32} (hdg : decode code pc = .ok (.bastore, 1)) (ho : 16 ≤ o ∧ o < n) (hk : K o = .inr (1, len)) (hin : vp_in x len) (kk : wp l G R own nm code maxL ret Z (pc + 1) ls st n K Rf (up2 V o x.toNatClampNeg (y.toInt8.toInt32)) ca sa) : wp l G R own nm code maxL ret Z pc ls (.inl y :: .inl x :: .inr (some o) :: st) n K Rf V ca sa := by
  intro p e s m args below meth c H locs A hx hb hr hml hlk hown hnm hts hKK hP hS hl
  obtain ⟨ht7, h1⟩ := hP.arr ho.2 (by omega) hk
  have hi := hin.nat
  have h2 := (hKK.arrOf ht7).1 len (elv G 1 V Rf o)
  refine W.bast hx hb h1 h2 (fun q => by (cases q)) (by rw [arrV_size]; exact hin) rfl rfl hdg fun H1 e1 e2 e3 => ?_
  have hS1 := hS.put (k := x.toNatClampNeg) e2 e3 (al_ge (by omega))
  have hP1 : Pic G n K Rf (up2 V o x.toNatClampNeg (y.toInt8.toInt32)) s H1 := by
    refine hP.put (o := o) ho.2 (by omega) e2 e3 ?_ (fun a ha j => rfl) (fun a ha j => up2_o _ ha)
    unfold cellP
    rw [if_neg (by omega), hk]
    refine ⟨ht7, ?_⟩
    rw [e1, arrV_store]
    congr 2
    funext q
    by_cases hq : q = x.toNatClampNeg
    · subst hq
      simp [updV, elv, up2_s, narrow_byte]
    · simp [updV, hq, elv, up2_k _ hq]
  exact kk p e s m args below meth c H1 _ A hx hb hr hml hlk hown hnm hts hKK hP1 hS1 hl
theorem wp_zast {o len : Nat} {x y : Int32} (hdg : decode code pc = .ok (.bastore, 1)) (ho : 16 ≤ o ∧ o < n) (hk : K o = .inr (2, len)) (hz : y = 0 ∨ y = 1) (hin : vp_in x len) (kk : wp l G R own nm code maxL ret Z (pc + 1) ls st n K Rf (up2 V o x.toNatClampNeg y) ca sa) : wp l G R own nm code maxL ret Z pc ls (.inl y :: .inl x :: .inr (some o) :: st) n K Rf V ca sa := by
  intro p e s m args below meth c H locs A hx hb hr hml hlk hown hnm hts hKK hP hS hl
  obtain ⟨ht7, h1⟩ := hP.arr ho.2 (by omega) hk
  have hi := hin.nat
  have h2 := (hKK.arrOf ht7).1 len (elv G 2 V Rf o)
  refine W.zast hx hb h1 h2 (fun q => by (cases q)) (by rw [arrV_size]; exact hin) rfl rfl hdg fun H1 e1 e2 e3 => ?_
  have hS1 := hS.put (k := x.toNatClampNeg) e2 e3 (al_ge (by omega))
  have hP1 : Pic G n K Rf (up2 V o x.toNatClampNeg y) s H1 := by
    refine hP.put (o := o) ho.2 (by omega) e2 e3 ?_ (fun a ha j => rfl) (fun a ha j => up2_o _ ha)
    unfold cellP
    rw [if_neg (by omega), hk]
    refine ⟨ht7, ?_⟩
    rw [e1, arrV_store]
    congr 2
    funext q
    by_cases hq : q = x.toNatClampNeg
    · subst hq
      rcases hz with rfl | rfl <;> simp [updV, elv, up2_s] <;> rfl
    · simp [updV, hq, elv, up2_k _ hq]
  exact kk p e s m args below meth c H1 _ A hx hb hr hml hlk hown hnm hts hKK hP1 hS1 hl
theorem wp_aast {o len t a ci : Nat} {x : Int32} {E C : String} {T : u_T} {N : Nat} (hdg : decode code pc = .ok (.aastore, 1)) (ho : 16 ≤ o ∧ o < n) (hk : K o = .inr (t, len)) (ht : arrTy t = .object E) (ht3 : ¬ t < 3) (ha : 16 ≤ a ∧ a < n) (hka : K a = .inl ci) (hci : qcl[ci]? = some (C, T, N)) (hca : C = E ∨ Cond.castable C E ∈ nestQ) (hin : vp_in x len) (kk : wp l G R own nm code maxL ret Z (pc + 1) ls st n K (up2 Rf o x.toNatClampNeg (some a)) V ca sa) : wp l G R own nm code maxL ret Z pc ls (.inr (some a) :: .inl x :: .inr (some o) :: st) n K Rf V ca sa := by
  intro p e s m args below meth c H locs A hx hb hr hml hlk hown hnm hts hKK hP hS hl
  obtain ⟨ht7, h1⟩ := hP.arr ho.2 (by omega) hk
  have hi := hin.nat
  have hcls := (hKK.1.1 ci _ hci).2
  obtain ⟨r, hr1, cellV, g1, g2, g3, -⟩ := hP.obj ha.2 (by omega) hka
  have hRA := (hKK.arrOf ht7).2
  rw [ht] at hRA
  obtain ⟨kA, comp, k1, k2, k3, -⟩ := hRA
  obtain ⟨kE, hkE, -⟩ := Vm.findClass_spec k3
  obtain ⟨kC, hkC, -⟩ := hcls.2
  have hasg : s.vm.assignable (G.1.1 ci) comp = true := by
    rcases hca with rfl | hca
    · cases hcls.1.symm.trans k3
      exact va_assign hcls
    · obtain ⟨c0, t1, f1, f2, f3⟩ := Cond.castable_spec (va_Nw.use (A := args) rfl (hKK.2.1 _ hca))
      cases hcls.1.symm.trans f1
      cases k3.symm.trans f2
      exact f3
  refine W.aast hx hb h1 (fun q h => by cases h) (fun h => by cases h) k1 k2 rfl hkE ⟨hi.1, by rw [arrV_size]; exact hi.2⟩ g1 (fun q h => by rw [g3] at h; cases h) (by rw [g2]; exact hkC) (by rw [g2]; exact hasg) rfl rfl hdg fun H1 e1 e2 e3 => ?_
  have hS1 := hS.put (k := x.toNatClampNeg) e2 e3 (al_ge (by omega))
  have hP1 : Pic G n K (up2 Rf o x.toNatClampNeg (some a)) V s H1 := by
    refine hP.put (o := o) ho.2 (by omega) e2 e3 ?_ (fun a ha j => up2_o _ ha) (fun a ha j => rfl)
    unfold cellP
    rw [if_neg (by omega), hk]
    refine ⟨ht7, ?_⟩
    rw [e1, arrV_store]
    congr 2
    funext q
    by_cases hq : q = x.toNatClampNeg
    · subst hq
      simp [updV, elv, up2_s, ht3, va_rf]
    · simp [updV, hq, elv, up2_k _ hq]
  exact kk p e s m args below meth c H1 _ A hx hb hr hml hlk hown hnm hts hKK hP1 hS1 hl
theorem wp_aastN {o len t : Nat} {x : Int32} {E : String} (hdg : decode code pc = .ok (.aastore, 1)) (ho : 16 ≤ o ∧ o < n) (hk : K o = .inr (t, len)) (ht : arrTy t = .object E) (ht3 : ¬ t < 3) (hin : vp_in x len) (kk : wp l G R own nm code maxL ret Z (pc + 1) ls st n K (up2 Rf o x.toNatClampNeg none) V ca sa) : wp l G R own nm code maxL ret Z pc ls (.inr none :: .inl x :: .inr (some o) :: st) n K Rf V ca sa := by
  intro p e s m args below meth c H locs A hx hb hr hml hlk hown hnm hts hKK hP hS hl
  obtain ⟨ht7, h1⟩ := hP.arr ho.2 (by omega) hk
  have hi := hin.nat
  have h2 := (hKK.arrOf ht7).1 len (elv G t V Rf o)
  rw [ht] at h2
  refine va_WaastN (C := E) hx hb h1 h2 (fun h => by cases h) (by rw [arrV_size]; exact hin) rfl rfl hdg fun H1 e1 e2 e3 => ?_
  have hS1 := hS.put (k := x.toNatClampNeg) e2 e3 (al_ge (by omega))
  have hP1 : Pic G n K (up2 Rf o x.toNatClampNeg none) V s H1 := by
    refine hP.put (o := o) ho.2 (by omega) e2 e3 ?_ (fun a ha j => up2_o _ ha) (fun a ha j => rfl)
    unfold cellP
    rw [if_neg (by omega), hk]
    refine ⟨ht7, ?_⟩
    rw [e1, arrV_store]
    congr 2
    funext q
    by_cases hq : q = x.toNatClampNeg
    · subst hq
      simp [updV, elv, up2_s, ht3, va_rf]
    · simp [updV, hq, elv, up2_k _ hq]
  exact kk p e s m args below meth c H1 _ A hx hb hr hml hlk hown hnm hts hKK hP1 hS1 hl
theorem wp_gets {ix : Nat} {C f d : String} {v : aV} (hdg : decode code pc = .ok (.getstatic ix, 3)) (hlink : Cond.fieldLink own ix C f d ∈ lw_all) (hZ : ∀ s, KKs G s → va_Z C f d (cv G v) (gA G) s s.heap) (kk : wp l G R own nm code maxL ret Z (pc + 3) ls (v :: st) n K Rf V ca sa) : wp l G R own nm code maxL ret Z pc ls st n K Rf V ca sa := by
  intro p e s m args below meth c H locs A hx hb hr hml hlk hown hnm hts hKK hP hS hl
  exact va_gets hx hb (hZ s hKK) hS hown (hts _ hlink) (fun _ h => h) hdg (kk p e s m args below meth c H locs A hx hb hr hml hlk hown hnm hts hKK hP hS hl)
theorem wp_objInit {ix : Nat} {o : Nat} (hdg : decode code pc = .ok (.invokespecial ix, 3)) (h1 : Cond.methodLink own ix Lib.objectInit ∈ lw_all) (h2 : Cond.instanceMethod Lib.objectInit ∈ lw_all) (h3 : Cond.code Lib.objectInit ⟨#[0xb1]⟩ 1 none ∈ lw_all) (hf : 1 ≤ R.frames) (hl9 : st.length + 12 ≤ R.locals) (kk : wp l G R own nm code maxL ret Z (pc + 3) ls st n K Rf V ca sa) : wp l G R own nm code maxL ret Z pc ls (.inr (some o) :: st) n K Rf V ca sa := by
  intro p e s m args below meth c H locs A hx hb hr hml hlk hown hnm hts hKK hP hS hl
  have hsum : ((st.map (cv G)).map fun v => v.category).sum = st.length := by
    clear kk hl9
    induction st with
    | nil => rfl
    | cons a t ih => simp only [List.map_cons, List.sum_cons, List.length_cons, cv_cat, ih]; omega
  refine W.objInit hx hb hown (hts _ h1) (hts _ h2) (hts _ h3) rfl (by rw [hml]; exact hl.1) rfl hdg hf ?_ ?_
  · show 2 * 0 + _ + 12 ≤ _
    rw [hsum]; omega
  · exact kk p e s m args below meth c H locs A hx hb hr hml hlk hown hnm hts hKK hP hS hl
end QH
