/-! THE COMPONENT'S METHODS, what they answer: a fire taken over -/
/-- places n taken over -/
def tkP (Kd A B : nT) (n : Nat) : nT := fun j => if j < n then (if Kd j = 1 then A j else 0) else if 96 ≤ j ∧ j < 96 + n then (if (if Kd (j - 96) = 1 then A (j - 96) else 0) = 1 then A j else 0) else B j
theorem tkP_0 {Kd A B : nT} : tkP Kd A B 0 = B := by funext j; unfold tkP; rw [if_neg (by omega), if_neg (by omega)]
theorem tkP_1 {Kd A B : nT} {n : Nat} (hn : n < 96) : upd (upd (tkP Kd A B n) n (if Kd n = 1 then A n else 0)) (96 + n) (if (if Kd n = 1 then A n else 0) = 1 then A (96 + n) else 0) = tkP Kd A B (n + 1) := by
  funext j
  unfold tkP upd
  by_cases h : j = 96 + n
  · subst h
    simp only [if_true, show ¬ (96 + n < n + 1) by omega, show (96 ≤ 96 + n ∧ 96 + n < 96 + (n + 1)) by omega, and_self, if_false, show 96 + n - 96 = n by omega]
  · rw [if_neg h]
    by_cases h2 : j = n
    · subst h2; simp only [if_true, show j < j + 1 by omega]
    · rw [if_neg h2]
      have e1 : j < n + 1 ↔ j < n := by omega
      have e2 : (96 ≤ j ∧ j < 96 + (n + 1)) ↔ (96 ≤ j ∧ j < 96 + n) := by omega
      simp only [e1, e2]
/-- things n taken over -/
def tkT (A B : nT) (n : Nat) : nT := fun j => if 192 ≤ j ∧ j < 312 ∧ (j - 192) % 24 < n then A j else B j
theorem tkT_0 {A B : nT} : tkT A B 0 = B := by funext j; unfold tkT; rw [if_neg (by omega)]
theorem tkT_1 {A B : nT} {n : Nat} (hn : n < 24) : upd (upd (upd (upd (upd (tkT A B n) (216 + n) (A (216 + n))) (240 + n) (A (240 + n))) (264 + n) (A (264 + n))) (192 + n) (A (192 + n))) (288 + n) (A (288 + n)) = tkT A B (n + 1) := by
  funext j
  unfold tkT upd
  by_cases h0 : j = 192 + n
  · subst h0; rw [if_neg (by omega), if_pos rfl, if_pos (by omega)]
  by_cases h1 : j = 216 + n
  · subst h1; rw [if_neg (by omega), if_neg (by omega), if_neg (by omega), if_neg (by omega), if_pos rfl, if_pos (by omega)]
  by_cases h2 : j = 240 + n
  · subst h2; rw [if_neg (by omega), if_neg (by omega), if_neg (by omega), if_pos rfl, if_pos (by omega)]
  by_cases h3 : j = 264 + n
  · subst h3; rw [if_neg (by omega), if_neg (by omega), if_pos rfl, if_pos (by omega)]
  by_cases h4 : j = 288 + n
  · subst h4; rw [if_pos rfl, if_pos (by omega)]
  rw [if_neg h4, if_neg h0, if_neg h3, if_neg h2, if_neg h1]
  have e : (192 ≤ j ∧ j < 312 ∧ (j - 192) % 24 < n + 1) ↔ (192 ≤ j ∧ j < 312 ∧ (j - 192) % 24 < n) := by omega
  simp only [e]
/-- a fire taken over -/
def takA (Kd A : nT) : nT := fun j => if j < 96 then (if Kd j = 1 then A j else 0) else if j < 192 then (if (if Kd (j - 96) = 1 then A (j - 96) else 0) = 1 then A j else 0) else A j
theorem takA_eq {Kd A B : nT} (ha : Hi0 A) (hb : Hi0 B) : upd (upd (upd (tkT A (tkP Kd A B 96) 24) 312 (A 312)) 313 (A 313)) 314 (A 314) = takA Kd A := by
  funext j
  unfold upd tkT tkP takA
  by_cases h1 : j < 96
  · simp (disch := omega) only [if_pos, if_neg]
  by_cases h2 : j < 192
  · rw [if_neg (by omega), if_neg (by omega), if_neg (by omega), if_neg (by omega), if_neg h1, if_pos (by omega), if_neg h1, if_pos h2]
  by_cases h3 : j < 312
  · rw [if_neg (by omega), if_neg (by omega), if_neg (by omega), if_pos (by omega), if_neg h1, if_neg h2]
  by_cases h4 : j = 314
  · subst h4; rfl
  by_cases h5 : j = 313
  · subst h5; rfl
  by_cases h6 : j = 312
  · subst h6; rfl
  rw [if_neg h4, if_neg h5, if_neg h6, if_neg (by omega), if_neg h1, if_neg (by omega), if_neg h1, if_neg h2, ha j (by omega), hb j (by omega)]
theorem takA_id {Kd A : nT} (h : OkN A) (hw : OkW A Kd) : takA Kd A = A := by
  have e : ∀ p, p < 96 → (if Kd p = 1 then A p else 0) = A p := fun p hp => by
    by_cases hk : Kd p = 1
    · rw [if_pos hk]
    · rw [if_neg hk, hw p hp hk]
  funext j
  unfold takA
  by_cases h1 : j < 96
  · rw [if_pos h1, e j h1]
  rw [if_neg h1]
  by_cases h2 : j < 192
  · rw [if_pos h2, e (j - 96) (by omega)]
    split
    · rfl
    · rename_i h3
      have := h.left (j - 96) (by omega) h3
      rw [show 96 + (j - 96) = j by omega] at this
      exact this.symm
  · rw [if_neg h2]
theorem fv_ut0 {V : vT} {f i : Nat} {x : Int32} (hi : i < 24) : fv (up2 V (f + 5 + i) 0 x) f = upd (fv V f) (216 + i) x := by
  funext j; unfold fv upd up2; grind
theorem fv_ut1 {V : vT} {f i : Nat} {x : Int32} (hi : i < 24) : fv (up2 V (f + 5 + i) 1 x) f = upd (fv V f) (240 + i) x := by
  funext j; unfold fv upd up2; grind
theorem fv_ut2 {V : vT} {f i : Nat} {x : Int32} (hi : i < 24) : fv (up2 V (f + 5 + i) 2 x) f = upd (fv V f) (264 + i) x := by
  funext j; unfold fv upd up2; grind
theorem fv_ut3 {V : vT} {f i : Nat} {x : Int32} (hi : i < 24) : fv (up2 V (f + 5 + i) 3 x) f = upd (fv V f) (192 + i) x := by
  funext j; unfold fv upd up2; grind
theorem fv_uw {V : vT} {f : Nat} {x : Int32} : fv (up2 V f 4 x) f = upd (fv V f) 312 x := by
  funext j; unfold fv upd up2; grind (splits := 20)
theorem fv_o {V V' : vT} {f a : Nat} (h : Fc f V V') (hd : f + 29 ≤ a ∨ a + 29 ≤ f) (ha : 19 ≤ a) : fv V' a = fv V a :=
  fv_fr fun o h1 h2 _ _ => h o (by omega) (by omega)
theorem fv_oz {V V' : vT} {f a : Nat} (h : Fz f V V') (hd : f + 29 ≤ a ∨ a + 29 ≤ f) (ha : 19 ≤ a) : fv V' a = fv V a :=
  fv_fr fun o h1 h2 _ _ => h o (by omega) (by omega)
section C0c
variable {E : eT} {V : vT} {k : Int32 → vT → Prop} {kv : vT → Prop} {x1 x2 x3 x4 : Int32} {tl f : Nat} {L : lawT}
theorem ctakes_loop2 {a : Nat} {V0 : vT} (hC : CM E tl) (hF : FO E f) (hF1 : FO E a) (hd : f + 29 ≤ a ∨ a + 29 ≤ f) (hf : 19 ≤ f) (ha : 19 ≤ a) (hb : Bl (fv V0 a))
    (h : ∀ V', fv V' f = upd (upd (upd (tkT (fv V0 a) (fv V0 f) 24) 312 (fv V0 a 312)) 313 (fv V0 a 313)) 314 (fv V0 a 314) → Fc f V0 V' → kv V') :
    ∀ m i (V : vT), i + m = 24 → fv V f = tkT (fv V0 a) (fv V0 f) i → Fc f V0 V → w3_takes E f kv 71 [some (vr f), some (vr a), some (vi (nI i))] [] V := by
  intro m
  induction m with
  | zero =>
    intro i V hi h1 h3
    have : i = 24 := by omega
    subst this
    refine b3_takes_71 hC hF hF1 ⟨fun _ => h _ ?_ (((h3.up (by omega)).up (by omega)).up (by omega)), fun h1 => absurd h1 (by decide)⟩
    have e := fv_o h3 hd ha
    rw [fv_ux, fv_um, fv_uw, h1, up2_n (show a ≠ f by omega), up2_n (show a ≠ f by omega), up2_n (show a ≠ f by omega), fv_w V a, fv_m V a, fv_x V a, e]
  | succ m ih =>
    intro i V hi h1 h3
    refine b3_takes_71 hC hF hF1 ⟨fun q => absurd q ?_, fun _ => ?_⟩
    · simp (disch := omega) only [lle_n]; omega
    · simp (disch := omega) only [nI_clamp, nI_1]
      have e := fv_o h3 hd ha
      have hv : vp_in (nI i) 24 := vp_n (by omega) (by decide)
      refine ⟨hv, hv, n4_takes (b4_takes_0 (hF.bt (by omega)) (hF.kt (by omega)) (hF1.bt (by omega)) (hF1.kt (by omega)) ?_)⟩
      simp only [up2_n (show a + 5 + i ≠ f + 5 + i by omega)]
      rw [fv_t0 V a (by omega), fv_t1 V a (by omega), fv_t2 V a (by omega), fv_t3 V a (by omega), fv_t4 V a (by omega), e]
      refine ⟨(hb i (by omega)).1, (hb i (by omega)).2, ih (i + 1) _ (by omega) ?_ (((((h3.up (by omega)).up (by omega)).up (by omega)).up (by omega)).up (by omega))⟩
      rw [fv_ut4 (by omega), fv_ut3 (by omega), fv_ut2 (by omega), fv_ut1 (by omega), fv_ut0 (by omega), h1, tkT_1 (by omega)]
theorem ctakes_loop1 {a : Nat} {V0 : vT} (hC : CM E tl) (hF : FO E f) (hF1 : FO E a) (hd : f + 29 ≤ a ∨ a + 29 ≤ f) (hf : 19 ≤ f) (ha : 19 ≤ a)
    (h : ∀ V', fv V' f = tkP (V0 17) (fv V0 a) (fv V0 f) 96 → Fc f V0 V' → w3_takes E f kv 71 [some (vr f), some (vr a), some (vi (nI 0))] [] V') :
    ∀ m i (V : vT), i + m = 96 → fv V f = tkP (V0 17) (fv V0 a) (fv V0 f) i → Fc f V0 V → w3_takes E f kv 2 [some (vr f), some (vr a), some (vi (nI i))] [] V := by
  intro m
  induction m with
  | zero =>
    intro i V hi h1 h3
    have : i = 96 := by omega
    subst this
    exact b3_takes_2 hC hF hF1 ⟨fun _ => h V h1 h3, fun h1 => absurd h1 (by decide)⟩
  | succ m ih =>
    intro i V hi h1 h3
    refine b3_takes_2 hC hF hF1 ⟨fun q => absurd q ?_, fun _ => ?_⟩
    · simp (disch := omega) only [lle_n]; omega
    · simp (disch := omega) only [nI_clamp, nI_1]
      have e := fv_o h3 hd ha
      have hv : vp_in (nI i) 96 := vp_n (by omega) (by decide)
      have hi' : i < 96 := by omega
      rw [h3 17 (by omega) (by omega)]
      simp only [up2_n (show a + 2 ≠ f + 1 by omega), up2_s]
      rw [fv_st V a hi', fv_le V a hi', e]
      have key : ∀ (s l : Int32), s = (if V0 17 i = 1 then fv V0 a i else 0) → l = (if s = 1 then fv V0 a (96 + i) else 0) → w3_takes E f kv 2 [some (vr f), some (vr a), some (vi (nI (i + 1)))] [] (up2 (up2 V (f + 1) i s) (f + 2) i l) := by
        intro s l hs hl
        subst hs
        subst hl
        refine ih (i + 1) _ (by omega) ?_ ((h3.up (by omega)).up (by omega))
        rw [fv_ul hi', fv_us hi', h1, tkP_1 hi']
      refine ⟨hv, fun q => ⟨hv, hv, fun q2 => ⟨hv, key _ _ (if_neg q).symm (if_neg q2).symm⟩, fun q2 => absurd q2 (by decide)⟩, fun q => ⟨hv, hv, hv, fun q2 => ⟨hv, key _ _ (if_pos q).symm (if_neg q2).symm⟩, fun q2 => ⟨hv, hv, key _ _ (if_pos q).symm (if_pos q2).symm⟩⟩⟩
theorem s3_takes {a : Nat} (hC : CM E tl) (hF : FO E f) (hF1 : FO E a) (hd : f + 29 ≤ a ∨ a + 29 ≤ f) (hf : 19 ≤ f) (ha : 19 ≤ a) (hb : Bl (fv V a))
    (h : ∀ V', fv V' f = takA (V 17) (fv V a) → Fc f V V' → kv V') : c3_takes E f a V kv := by
  refine n3_takes (b3_takes_0 hC hF hF1 (ctakes_loop1 hC hF hF1 hd hf ha (fun V1 e1 a1 => ?_) 96 0 V rfl tkP_0.symm Fc.rf))
  have e := fv_o a1 hd ha
  refine ctakes_loop2 hC hF hF1 hd hf ha (by rw [e]; exact hb) (fun V2 e2 a2 => h V2 ?_ (a1.tr a2)) 24 0 V1 rfl tkT_0.symm Fc.rf
  rw [e2, e1, e, takA_eq fv_hi fv_hi]
end C0c
