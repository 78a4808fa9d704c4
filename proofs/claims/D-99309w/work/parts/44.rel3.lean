/-! BOTH OBJECTS, alike -/
/-- the rows that say the same in component and twin -/
def Rl (E : eT) (tl : Nat) (V : vT) : Prop :=
  (CM E tl ∧ TW E ∧ (tl = 107 ∨ 245 ≤ tl) ∧ CB V) ∧ (fv V 19 = V 215 ∧ V 17 = V 218 ∧ OkN (V 215) ∧ OkW (V 215) (V 218) ∧ Z9 V) ∧
  (V 106 = V 220 ∧ V 16 7 = V 214 6 ∧ ∃ t, t ≤ 260 ∧ V 214 6 = nI t) ∧ (V 16 8 = V 214 45 ∧ Hi0 (V 217) ∧ (V 214 45 ≠ 0 → fv V 77 = V 217 ∧ OkN (V 217))) ∧
  ∃ m rk, LC E tl (lawV m rk V) V ∧ LT E m rk V ∧ V tl 3 = nI m
/-- the twin's rows are as they were; the component's are -/
def Tz (V V1 : vT) : Prop := ∀ o, 214 ≤ o → o < 245 → V1 o = V o
def Kc (tl o : Nat) : Prop := o = 1 ∨ o = 2 ∨ (77 ≤ o ∧ o < 106 ∧ o ≠ 80) ∨ (tl ≤ o ∧ o < tl + 4) ∨ 245 ≤ o
theorem Fz.tz {f : Nat} {V V1 : vT} (h : Fz f V V1) (hf : f + 29 ≤ 214) : Tz V V1 := fun o ho h1 => h o (by omega) (by omega)
theorem Fz.kc {f tl : Nat} {V V1 : vT} (h : Fz f V V1) (hf : f + 29 ≤ 77) (hf2 : 19 ≤ f) (ht : tl = 107 ∨ 245 ≤ tl) : ∀ o, Kc tl o → V1 o = V o := fun o ho => h o (by unfold Kc at ho; omega) (by unfold Kc at ho; omega)
section RLS
variable {E : eT} {V V1 V2 : vT} {tl : Nat}
theorem Rl.C (h : Rl E tl V) : CM E tl := h.1.1
theorem Rl.T (h : Rl E tl V) : TW E := h.1.2.1
theorem Rl.lay (h : Rl E tl V) : tl = 107 ∨ 245 ≤ tl := h.1.2.2.1
theorem Rl.cb (h : Rl E tl V) : CB V := h.1.2.2.2
theorem Rl.row (h : Rl E tl V) : fv V 19 = V 215 := h.2.1.1
theorem Rl.kin (h : Rl E tl V) : V 17 = V 218 := h.2.1.2.1
theorem Rl.ok (h : Rl E tl V) : OkN (V 215) := h.2.1.2.2.1
theorem Rl.okw (h : Rl E tl V) : OkW (V 215) (V 218) := h.2.1.2.2.2.1
theorem Rl.z9 (h : Rl E tl V) : Z9 V := h.2.1.2.2.2.2
theorem Rl.tap (h : Rl E tl V) : V 106 = V 220 := h.2.2.1.1
theorem Rl.tp (h : Rl E tl V) : V 16 7 = V 214 6 := h.2.2.1.2.1
theorem Rl.tpn (h : Rl E tl V) : ∃ t, t ≤ 260 ∧ V 214 6 = nI t := h.2.2.1.2.2
theorem Rl.kept (h : Rl E tl V) : V 16 8 = V 214 45 := h.2.2.2.1.1
theorem Rl.hi (h : Rl E tl V) : Hi0 (V 217) := h.2.2.2.1.2.1
theorem Rl.krow (h : Rl E tl V) : V 214 45 ≠ 0 → fv V 77 = V 217 ∧ OkN (V 217) := h.2.2.2.1.2.2
theorem Rl.law (h : Rl E tl V) : ∃ m rk, LC E tl (lawV m rk V) V ∧ LT E m rk V ∧ V tl 3 = nI m := h.2.2.2.2
theorem Rl.F19 (h : Rl E tl V) : FO E 19 := h.C.2.2.2.1.1
theorem Rl.F48 (h : Rl E tl V) : FO E 48 := h.C.2.2.2.1.2.1
theorem Rl.F77 (h : Rl E tl V) : FO E 77 := h.C.2.2.2.1.2.2
theorem Rl.bl (h : Rl E tl V) : Bl (fv V 19) := by rw [h.row]; exact h.ok.bl
theorem LT.tz {m : Nat} {rk : Int32 → Int32 → nT → Int32} (h : LT E m rk V) (hz : Tz V V1) : LT E m rk V1 :=
  h.of (by rw [hz 214 (by decide) (by decide)]) (hz _ (by decide) (by decide)) (hz _ (by decide) (by decide)) (hz _ (by decide) (by decide)) (hz _ (by decide) (by decide))
theorem lawV_tz {m : Nat} {rk : Int32 → Int32 → nT → Int32} (hz : Tz V V1) : lawV m rk V1 = lawV m rk V :=
  lawV_of (hz _ (by decide) (by decide)) (hz _ (by decide) (by decide)) (hz _ (by decide) (by decide)) (hz _ (by decide) (by decide))
theorem Z9.tz (h : Z9 V) (hz : Tz V V1) : Z9 V1 := fun j hj => by rw [hz 233 (by decide) (by decide)]; exact h j hj
/-- a step of the component, then one of the twin: alike again -/
theorem Rl.go {S T : List Nat} (h : Rl E tl V) (hc : ∀ o, Kc tl o → V1 o = V o) (hz : Tz V V1) (a : Ft S T V1 V2)
    (hS : ∀ o, o ∈ S → 214 ≤ o ∧ o < 245 ∧ o ≠ 217 ∧ ¬ (227 ≤ o ∧ o ≤ 231)) (hT : 15 ∉ T ∧ 45 ∉ T)
    (row : fv V1 19 = V2 215) (kin : V1 17 = V2 218) (ok : OkN (V2 215)) (okw : OkW (V2 215) (V2 218)) (z9 : Z9 V2)
    (tap : V1 106 = V2 220) (tp : V1 16 7 = V2 214 6) (tpn : ∃ t, t ≤ 260 ∧ V2 214 6 = nI t) (h8 : V1 16 8 = V 16 8) : Rl E tl V2 := by
  have c2 : ∀ o, o < 214 ∨ 245 ≤ o → V2 o = V1 o := fun o ho => a.1 o (fun q => by have := hS o q; omega) (by omega)
  have t2 : ∀ o, 214 ≤ o → o < 245 → o ∉ S → o ≠ 214 → V2 o = V o := fun o h1 h2 h3 h4 => (a.1 o h3 h4).trans (hz o h1 h2)
  have n2 : ∀ o, (o = 217 ∨ (227 ≤ o ∧ o ≤ 231)) → o ∉ S := fun o h1 h2 => by have := hS o h2; omega
  have ht := h.lay
  have k2 : ∀ o, Kc tl o → V2 o = V o := fun o ho => by
    rw [c2 o (by unfold Kc at ho; omega)]; exact hc o ho
  have e17 : V2 217 = V 217 := t2 217 (by decide) (by decide) (n2 217 (Or.inl rfl)) (by decide)
  have e45 : V2 214 45 = V 214 45 := by rw [a.2 45 hT.2, hz 214 (by decide) (by decide)]
  have f19 : fv V2 19 = fv V1 19 := fv_fr fun o _ h2 _ _ => c2 o (by omega)
  have f77 : fv V2 77 = fv V 77 := fv_fr fun o _ h2 h3 h4 => k2 o (by unfold Kc; omega)
  obtain ⟨m, rk, l1, l2, l3⟩ := h.law
  have e : lawV m rk V2 = lawV m rk V := lawV_of (t2 228 (by decide) (by decide) (n2 228 (by omega)) (by decide)) (t2 229 (by decide) (by decide) (n2 229 (by omega)) (by decide)) (t2 230 (by decide) (by decide) (n2 230 (by omega)) (by decide)) (t2 231 (by decide) (by decide) (n2 231 (by omega)) (by decide))
  refine ⟨⟨h.C, h.T, h.lay, h.cb.fr (k2 1 (by unfold Kc; omega)) (k2 2 (by unfold Kc; omega))⟩, ⟨by rw [f19]; exact row, by rw [c2 17 (by decide)]; exact kin, ok, okw, z9⟩,
    ⟨by rw [c2 106 (by decide)]; exact tap, by rw [c2 16 (by decide)]; exact tp, tpn⟩, ⟨by rw [c2 16 (by decide), h8, e45]; exact h.kept, by rw [e17]; exact h.hi, by rw [e45, f77, e17]; exact h.krow⟩,
    m, rk, by rw [e]; exact l1.of (fun o ho => k2 o (by unfold Kc; omega)), ?_, by rw [k2 tl (by unfold Kc; omega)]; exact l3⟩
  exact l2.of (by rw [a.2 15 hT.1, hz 214 (by decide) (by decide)]) (t2 227 (by decide) (by decide) (n2 227 (by omega)) (by decide)) (t2 229 (by decide) (by decide) (n2 229 (by omega)) (by decide)) (t2 230 (by decide) (by decide) (n2 230 (by omega)) (by decide)) (t2 231 (by decide) (by decide) (n2 231 (by omega)) (by decide))
/-- nothing but scratch was written -/
theorem Rl.same {S T : List Nat} (h : Rl E tl V) (hc : ∀ o, Kc tl o → V1 o = V o) (hz : Tz V V1) (a : Ft S T V1 V2)
    (hS : ∀ o, o ∈ S → 214 ≤ o ∧ o < 245 ∧ o ∉ [215, 217, 218, 220, 233] ∧ ¬ (227 ≤ o ∧ o ≤ 231)) (hT : 15 ∉ T ∧ 45 ∉ T ∧ 6 ∉ T)
    (row : fv V1 19 = fv V 19) (kin : V1 17 = V 17) (tap : V1 106 = V 106) (tp : V1 16 7 = V 16 7) (h8 : V1 16 8 = V 16 8) : Rl E tl V2 := by
  have t2 : ∀ o, o ∈ [215, 217, 218, 220, 233] → V2 o = V o := fun o ho => by
    have hr : 214 ≤ o ∧ o < 245 ∧ o ≠ 214 := by simp at ho; omega
    rw [a.1 o (fun q => (hS o q).2.2.1 ho) hr.2.2, hz o hr.1 hr.2.1]
  have e6 : V2 214 6 = V 214 6 := by rw [a.2 6 hT.2.2, hz 214 (by decide) (by decide)]
  refine h.go hc hz a (fun o ho => ⟨(hS o ho).1, (hS o ho).2.1, fun e => (hS o ho).2.2.1 (by simp [e]), (hS o ho).2.2.2⟩) ⟨hT.1, hT.2.1⟩ ?_ ?_ ?_ ?_ ?_ ?_ ?_ ?_ h8
  · rw [row, t2 215 (by simp)]; exact h.row
  · rw [kin, t2 218 (by simp)]; exact h.kin
  · rw [t2 215 (by simp)]; exact h.ok
  · rw [t2 215 (by simp), t2 218 (by simp)]; exact h.okw
  · intro j hj; rw [t2 233 (by simp)]; exact h.z9 j hj
  · rw [tap, t2 220 (by simp)]; exact h.tap
  · rw [tp, e6]; exact h.tp
  · rw [e6]; exact h.tpn
/-- the tape is used up -/
theorem Rl.tap0 {S T : List Nat} (h : Rl E tl V) (hc : ∀ o, Kc tl o → V1 o = V o) (hz : Tz V V1) (a : Ft S T V1 V2)
    (hS : ∀ o, o ∈ S → 214 ≤ o ∧ o < 245 ∧ o ∉ [215, 217, 218, 220, 233] ∧ ¬ (227 ≤ o ∧ o ≤ 231)) (hT : 15 ∉ T ∧ 45 ∉ T)
    (row : fv V1 19 = fv V 19) (kin : V1 17 = V 17) (tap : V1 106 = V 106) (tp : V1 16 7 = 0) (tp6 : V2 214 6 = 0) (h8 : V1 16 8 = V 16 8) : Rl E tl V2 := by
  have t2 : ∀ o, o ∈ [215, 217, 218, 220, 233] → V2 o = V o := fun o ho => by
    have hr : 214 ≤ o ∧ o < 245 ∧ o ≠ 214 := by simp at ho; omega
    rw [a.1 o (fun q => (hS o q).2.2.1 ho) hr.2.2, hz o hr.1 hr.2.1]
  refine h.go hc hz a (fun o ho => ⟨(hS o ho).1, (hS o ho).2.1, fun e => (hS o ho).2.2.1 (by simp [e]), (hS o ho).2.2.2⟩) hT ?_ ?_ ?_ ?_ ?_ ?_ ?_ ?_ h8
  · rw [row, t2 215 (by simp)]; exact h.row
  · rw [kin, t2 218 (by simp)]; exact h.kin
  · rw [t2 215 (by simp)]; exact h.ok
  · rw [t2 215 (by simp), t2 218 (by simp)]; exact h.okw
  · intro j hj; rw [t2 233 (by simp)]; exact h.z9 j hj
  · rw [tap, t2 220 (by simp)]; exact h.tap
  · rw [tp, tp6]
  · exact ⟨0, by decide, tp6⟩
end RLS
