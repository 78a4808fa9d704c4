/-! THE COMPONENT'S METHODS, what they answer: a fire goes over, a turn, minutes -/
theorem clamp_10 {v : Int32} : mxI 0 (mnI 10 v) = clampA v 0 10 := by unfold mxI mnI clampA; grind
theorem clamp_9 {v : Int32} : mxI 1 (mxI 0 (mnI 9 v)) = clampA v 1 9 := by unfold mxI mnI clampA; grind
theorem byA_c {L : lawT} {c lo hi : Int32} {F : nT} (h : clampA 0 lo hi = lo) : clampA ((L c F).getD 0) lo hi = byA L c lo hi F := by
  unfold byA
  cases L c F with
  | none => exact h
  | some v => rfl
theorem oB_0 {L : lawT} {c : Int32} {F : nT} : oB (L c F) = 0 ↔ ¬ anyA L c F = true := by
  unfold anyA; cases L c F <;> simp [oB]
/-- the rows a text at tl leans on -/
def LK (tl : Nat) (V V' : vT) : Prop := ∀ o, (tl ≤ o ∧ o < tl + 4) ∨ 245 ≤ o → V' o = V o
theorem LK.rf {tl : Nat} {V : vT} : LK tl V V := fun _ _ => rfl
theorem LK.tr {tl : Nat} {V V1 V2 : vT} (h : LK tl V V1) (h1 : LK tl V1 V2) : LK tl V V2 := fun o ho => (h1 o ho).trans (h o ho)
/-- the text at tl answers as the law L -/
def LC (E : eT) (tl : Nat) (L : lawT) (V : vT) : Prop := ∀ V', LK tl V V' → ∀ (c : Int32) (k : Int32 → vT → Prop),
  ((∀ V'', Fr [18] V' V'' → k ((L c (mF V')).getD 0) V'') → c5_tells E tl c V' k) ∧ ((∀ V'', Fr [18] V' V'' → k (oB (L c (mF V'))) V'') → c5_says E tl c V' k)
theorem LC.of {E : eT} {tl : Nat} {L : lawT} {V V' : vT} (h : LC E tl L V) (h1 : LK tl V V') : LC E tl L V' := fun V2 h2 => h V2 (h1.tr h2)
/-- a fire's own rows, its marks among them, and the moment apart, all is as it was -/
def Fz (f : Nat) (V V' : vT) : Prop := ∀ o, o < f ∨ f + 29 ≤ o → o ≠ 18 → V' o = V o
theorem Fz.rf {f : Nat} {V : vT} : Fz f V V := fun _ _ _ => rfl
theorem Fz.tr {f : Nat} {V V1 V2 : vT} (h : Fz f V V1) (h1 : Fz f V1 V2) : Fz f V V2 := fun o ho h2 => (h1 o ho h2).trans (h o ho h2)
theorem Fz.up {f : Nat} {V V1 : vT} {o j : Nat} {x : Int32} (h : Fz f V V1) (ho : (f ≤ o ∧ o < f + 29) ∨ o = 18) : Fz f V (up2 V1 o j x) :=
  fun a ha h2 => (up2_n (by omega)).trans (h a ha h2)
theorem Fc.fd {f : Nat} {V V1 : vT} (h : Fc f V V1) : Fz f V V1 := fun o ho h2 => h o (by omega) h2
theorem Fz.lk {f tl : Nat} {V V1 : vT} (h : Fz f V V1) (ht : f + 29 ≤ tl ∧ 107 ≤ tl) (hg : f + 29 ≤ 245) : LK tl V V1 := fun o ho => h o (by omega) (by omega)
theorem Fz.cb {f : Nat} {V V' : vT} (h : CB V) (hF : Fz f V V') (hf : 19 ≤ f) : CB V' := by
  unfold CB; rw [hF 1 (by omega) (by omega), hF 2 (by omega) (by omega)]; exact h
theorem fv_18 {V V' : vT} {f : Nat} (hf : 19 ≤ f) (h : Fr [18] V V') : fv V' f = fv V f :=
  fv_fr fun o h1 _ _ _ => h o (by simp; omega)
section C0b
variable {E : eT} {V : vT} {k : Int32 → vT → Prop} {kv : vT → Prop} {x1 x2 x3 x4 : Int32} {tl f : Nat} {L : lawT}
theorem s3_goesOver {p w : Nat} (hC : CM E tl) (hF : FO E f) (hB : CB V) (hb : Bl (fv V f)) (hL : LC E tl L V) (hf : 19 ≤ f) (ht : f + 29 ≤ tl ∧ 107 ≤ tl) (hg : f + 29 ≤ 245) (hp : p < 96) (hw : w < 4)
    (h : ∀ V', fv V' f = overA L (V 17) p w (fv V f) → Fc f V V' → kv V') : c3_goesOver E f (nI p) (nI w) V kv := by
  refine n3_goesOver (b3_goesOver_0 hC hF (s0_next hC hB hp hw ?_))
  cases hn : nx p w with
  | none => exact ⟨fun _ => h V (by unfold overA; rw [hn]) Fc.rf, fun q => absurd rfl q⟩
  | some q =>
    have hq := nx_lt hp hn
    have hm : nI q ≠ -1 := fun e => nomatch (oI_m1 (o := some q) (fun q' hq' => by cases hq'; omega)).mp e
    simp (disch := omega) only [oI, nI_clamp]
    have hv : vp_in (nI q) 96 := vp_n hq (by decide)
    refine ⟨fun z => absurd z hm, fun _ => ⟨hv, fun h1 => h V (by unfold overA; rw [hn]; simp only; rw [if_neg (fun z => h1 z.1)]) Fc.rf, fun h1 => ⟨hv, fun h2 => ⟨vp_n hp (by decide), ?_⟩, fun h2 => h V (by rw [fv_st V f hq] at h2; unfold overA; rw [hn]; simp only; rw [if_neg (fun z => h2 z.2)]) Fc.rf⟩⟩⟩
    rw [fv_st V f hq] at h2
    rw [fv_le V f hp]
    have hov : overA L (V 17) p w (fv V f) = if rmd (drawN (fv V f) 314) 10 < byA L 115 0 10 (factsA (fv V f) q (fv V f (96 + p)) (nI w) 0) then upd (upd (drawN (fv V f)) (96 + q) (byA L 98 1 9 (factsA (drawN (fv V f)) q 0 0 0))) q 1 else drawN (fv V f) := by
      unfold overA; rw [hn]; simp only; rw [if_pos ⟨h1, h2⟩]
    refine s3_asked hC hF hB hb hf hq fun V1 hF1 hm1 => ?_
    have a1 : Fc f V V1 := Fc.of18 hF1
    refine (hL V1 (a1.fd.lk ht hg) _ _).1 fun V2 hF2 => s0_held hC (s3_draw hC hF ?_)
    have a2 : Fc f V V2 := a1.tr (Fc.of18 hF2)
    have e2 : fv V2 f = fv V f := (fv_18 hf hF2).trans (fv_18 hf hF1)
    rw [clamp_10, byA_c (by decide), hm1, e2]
    have a3 : Fc f V (up2 V2 f 6 (rmd (25173 * fv V f 314 + 13849) 65536)) := a2.up (by omega)
    have e3 : fv (up2 V2 f 6 (rmd (25173 * fv V f 314 + 13849) 65536)) f = drawN (fv V f) := by rw [fv_ux, e2]; rfl
    generalize up2 V2 f 6 (rmd (25173 * fv V f 314 + 13849) 65536) = V3 at a3 e3 ⊢
    refine ⟨fun h4 => ?_, fun h4 => h _ (by rw [hov, if_neg (Int32.not_lt.mpr h4)]; exact e3) a3⟩
    rw [if_pos h4] at hov
    refine s3_asked hC hF (hB.fc a3 hf) (by rw [e3]; exact hb.up (by omega)) hf hq fun V4 hF4 hm4 => ?_
    have a4 : Fc f V V4 := a3.tr (Fc.of18 hF4)
    refine (hL V4 (a4.fd.lk ht hg) _ _).1 fun V5 hF5 => s0_held hC (s3_lights hC hF hq ?_)
    have a5 : Fc f V V5 := a4.tr (Fc.of18 hF5)
    have e5 : fv V5 f = drawN (fv V f) := ((fv_18 hf hF5).trans (fv_18 hf hF4)).trans e3
    rw [clamp_9, byA_c (by decide), hm4, e3]
    refine h _ ?_ ((a5.up (by omega)).up (by omega))
    rw [fv_ul hq, fv_us hq, e5, hov]
    funext j
    unfold upd
    by_cases hj : j = q <;> by_cases hj2 : j = 96 + q <;> simp [hj, hj2]
    all_goals omega
theorem Fc.cb {f : Nat} {V V' : vT} (h : Fc f V V') (hB : CB V) (hf : 19 ≤ f) : CB V' := hB.fc h hf
theorem burns_loop2 {p : Nat} {V0 : vT} (hC : CM E tl) (hF : FO E f) (hB : CB V0) (hb : Bl (fv V0 f)) (hL : LC E tl L V0) (hf : 19 ≤ f) (ht : f + 29 ≤ tl ∧ 107 ≤ tl) (hg : f + 29 ≤ 245) (hp : p < 96)
    (h : ∀ V', fv V' f = outA L p (itN (fun w M => overA L (V0 17) p w M) 4 (fv V0 f)) → Fc f V0 V' → kv V') :
    ∀ r w (V : vT), w + r = 4 → fv V f = itN (fun w M => overA L (V0 17) p w M) w (fv V0 f) → Fc f V0 V → w3_burns E kv 54 [some (vr f), some (vi (nI p)), some (vi (nI w)), none, none, none] [] V := by
  intro r
  induction r with
  | zero =>
    intro w V hw h1 h3
    have : w = 4 := by omega
    subst this
    refine b3_burns_54 hC hF ⟨fun _ => ?_, fun q => absurd q (by decide)⟩
    simp (disch := omega) only [nI_clamp]
    have hv : vp_in (nI p) 96 := vp_n hp (by decide)
    have hbV : Bl (fv V f) := by rw [h1]; exact hb.it hp 4
    refine ⟨hv, s3_draw hC hF ?_⟩
    rw [← h1] at h
    rw [fv_le V f hp]
    have a1 : Fc f V0 (up2 V f 6 (rmd (25173 * fv V f 314 + 13849) 65536)) := h3.up (by omega)
    have e1 : fv (up2 V f 6 (rmd (25173 * fv V f 314 + 13849) 65536)) f = drawN (fv V f) := by rw [fv_ux]; rfl
    generalize up2 V f 6 (rmd (25173 * fv V f 314 + 13849) 65536) = V1 at a1 e1 ⊢
    refine s3_asked hC hF (a1.cb hB hf) (by rw [e1]; exact hbV.up (by omega)) hf hp fun V2 hF2 hm2 => ?_
    have a2 : Fc f V0 V2 := a1.tr (Fc.of18 hF2)
    refine (hL V2 (a2.fd.lk ht hg) _ _).2 fun V3 hF3 => ?_
    have a3 : Fc f V0 V3 := a2.tr (Fc.of18 hF3)
    have e3 : fv V3 f = drawN (fv V f) := ((fv_18 hf hF3).trans (fv_18 hf hF2)).trans e1
    rw [hm2, e1, oB_0, fv_le V3 f hp, e3]
    have ho : outA L p (fv V f) = (let N1 := drawN (fv V f); let y := if anyA L 120 (factsA N1 p (fv V f (96 + p)) 0 (rmd (N1 314) 10)) = true then 0 else N1 (96 + p) - 1; if y = 0 then upd (upd N1 (96 + p) y) p 2 else upd N1 (96 + p) y) := rfl
    simp only at ho
    by_cases hany : anyA L 120 (factsA (drawN (fv V f)) p (fv V f (96 + p)) 0 (rmd (drawN (fv V f) 314) 10)) = true
    · simp only [if_pos hany] at ho
      refine ⟨fun q => absurd hany q, fun _ => ⟨hv, hv, ?_, fun _ => ⟨hv, h _ ?_ ((a3.up (by omega)).up (by omega))⟩⟩⟩
      · rw [up2_s]; exact fun q => absurd rfl q
      · rw [ho, fv_us hp, fv_ul hp, e3]; rfl
    · simp only [if_neg hany] at ho
      refine ⟨fun _ => ⟨hv, hv, hv, ?_, ?_⟩, fun q => absurd hany q⟩
      · rw [up2_s]
        exact fun q => h _ (by rw [ho, if_neg q, fv_ul hp, e3]) (a3.up (by omega))
      · rw [up2_s]
        exact fun q => ⟨hv, h _ (by rw [ho, if_pos q, fv_us hp, fv_ul hp, e3]) ((a3.up (by omega)).up (by omega))⟩
  | succ r ih =>
    intro w V hw h1 h3
    refine b3_burns_54 hC hF ⟨fun q => absurd q ?_, fun _ => s3_goesOver hC hF (h3.cb hB hf) (by rw [h1]; exact hb.it hp w) (hL.of (h3.fd.lk ht hg)) hf ht hg hp (by omega) fun V1 e1 a1 => ?_⟩
    · simp (disch := omega) only [lle_n]; omega
    · simp (disch := omega) only [nI_1]
      refine ih (w + 1) V1 (by omega) ?_ (h3.tr a1)
      rw [e1, h1, h3 17 (by omega) (by omega)]
      rfl
theorem burns_loop1 {p : Nat} {V0 : vT} (hC : CM E tl) (hF : FO E f) (hb : Bl (fv V0 f))
    (h : ∀ V', fv V' f = goneN p (fv V0 f) → Fc f V0 V' → w3_burns E kv 54 [some (vr f), some (vi (nI p)), some (vi (nI 0)), none, none, none] [] V') :
    ∀ m i (V : vT), i + m = 24 → fv V f = goneTo p (fv V0 f) i → Fc f V0 V → Bl (fv V f) → w3_burns E kv 11 [some (vr f), some (vi (nI p)), some (vr (f + 4)), some (vi 24), some (vi (nI i)), none] [] V := by
  intro m
  induction m with
  | zero =>
    intro i V hi h1 h3 hbV
    have : i = 24 := by omega
    subst this
    exact b3_burns_11 hC hF ⟨fun _ => h V h1 h3, fun h1 => absurd h1 (by decide)⟩
  | succ m ih =>
    intro i V hi h1 h3 hbV
    refine b3_burns_11 hC hF ⟨fun q => absurd q ?_, fun _ => ?_⟩
    · simp (disch := omega) only [lle_n]; omega
    · simp (disch := omega) only [nI_clamp, nI_1]
      refine ⟨vp_n (by omega) (by decide), s4_isAt hF hbV (by omega) ?_⟩
      rw [fv_t2 V f (by omega)]
      refine ⟨fun q => ?_, fun q => ⟨fun q2 => ?_, fun q2 => ?_⟩⟩
      · rw [b2_0, h1, goneTo_lies (by omega) (Nat.le_refl _)] at q
        have e := goneTo_f (p := p) (n := i) (N := fv V0 f) (fun z => q z.1)
        exact ih (i + 1) V (by omega) (by rw [e]; exact h1) h3 hbV
      · rw [h1, goneTo_lo (by omega)] at q2
        have e := goneTo_f (p := p) (n := i) (N := fv V0 f) (fun z => q2 z.2)
        exact ih (i + 1) V (by omega) (by rw [e]; exact h1) h3 hbV
      · rw [b2_0, h1, goneTo_lies (by omega) (Nat.le_refl _)] at q
        have q := Classical.not_not.mp q
        rw [h1, goneTo_lo (by omega)] at q2
        have e := goneTo_t (p := p) (n := i) (N := fv V0 f) ⟨q, q2⟩
        refine ih (i + 1) _ (by omega) (by rw [fv_ut4 (by omega), h1, e]) (h3.up (by omega)) ?_
        rw [fv_ut4 (by omega)]
        intro a ha
        rw [upd_n (j := 192 + a) (by omega)]
        refine ⟨(hbV a ha).1, ?_⟩
        unfold upd
        split
        · exact Or.inr rfl
        · exact (hbV a ha).2
theorem s3_burns {p : Nat} (hC : CM E tl) (hF : FO E f) (hB : CB V) (hb : Bl (fv V f)) (hL : LC E tl L V) (hf : 19 ≤ f) (ht : f + 29 ≤ tl ∧ 107 ≤ tl) (hg : f + 29 ≤ 245) (hp : p < 96)
    (h : ∀ V', fv V' f = turnA L (V 17) p (fv V f) → Fc f V V' → kv V') : c3_burns E f (nI p) V kv := by
  refine n3_burns (b3_burns_0 hC hF (burns_loop1 hC hF hb (fun V1 e1 a1 => ?_) 24 0 V rfl goneTo_0.symm Fc.rf hb))
  refine burns_loop2 hC hF (a1.cb hB hf) (by rw [e1]; exact hb.gone) (hL.of (a1.fd.lk ht hg)) hf ht hg hp (fun V' e2 a2 => ?_) 4 0 V1 rfl rfl Fc.rf
  exact h V' (by rw [e2, e1, a1 17 (by omega) (by omega)]; rfl) (a1.tr a2)
theorem cminute_loop2 {V0 : vT} {N : nT} (hC : CM E tl) (hF : FO E f) (hCB : CB V0) (hb : Bl (fv V0 f)) (hL : LC E tl L V0) (hf : 19 ≤ f) (ht : f + 29 ≤ tl ∧ 107 ≤ tl) (hg : f + 29 ≤ 245) (hB : ∀ p, p < 96 → (V0 (f + 3) p = 0 ↔ ¬ N p = 1))
    (h : ∀ V', fv V' f = itN (fun p M => if N p = 1 then turnA L (V0 17) p M else M) 96 (fv V0 f) → Fc f V0 V' → kv (up2 V' f 5 (V' f 5 + 1))) :
    ∀ r p (V : vT), p + r = 96 → fv V f = itN (fun p M => if N p = 1 then turnA L (V0 17) p M else M) p (fv V0 f) → Fc f V0 V → w3_minuteGoes E kv 37 [some (vr f), some (vi (nI p))] [] V := by
  intro r
  induction r with
  | zero =>
    intro p V hp h1 h3
    have : p = 96 := by omega
    subst this
    exact b3_minuteGoes_37 hC hF ⟨fun _ => h V h1 h3, fun q => absurd q (by decide)⟩
  | succ r ih =>
    intro p V hp h1 h3
    refine b3_minuteGoes_37 hC hF ⟨fun q => absurd q ?_, fun _ => ?_⟩
    · simp (disch := omega) only [lle_n]; omega
    · simp (disch := omega) only [nI_clamp, nI_1]
      rw [h3 (f + 3) (by omega) (by omega)]
      refine ⟨vp_n (by omega) (by decide), fun q => ?_, fun q => ?_⟩
      · rw [hB p (by omega)] at q
        exact ih (p + 1) V (by omega) (by rw [h1]; simp only [itN]; rw [if_neg q]) h3
      · rw [hB p (by omega)] at q
        have q := Classical.not_not.mp q
        refine s3_burns hC hF (h3.cb hCB hf) (by rw [h1]; exact hb.turns p (by omega)) (hL.of (h3.fd.lk ht hg)) hf ht hg (by omega) fun V1 e1 a1 => ?_
        refine ih (p + 1) V1 (by omega) ?_ (h3.tr a1)
        rw [e1, h1, h3 17 (by omega) (by omega)]
        simp only [itN]
        rw [if_pos q]
theorem cminute_loop1 {V0 : vT} (hC : CM E tl) (hF : FO E f) (h : ∀ V', Fr [f + 3] V0 V' → (∀ p, p < 96 → (V' (f + 3) p = 0 ↔ ¬ fv V0 f p = 1)) → w3_minuteGoes E kv 37 [some (vr f), some (vi 0)] [] V') :
    ∀ r p (V : vT), p + r = 96 → Fr [f + 3] V0 V → (∀ i, i < p → (V (f + 3) i = 0 ↔ ¬ fv V0 f i = 1)) → w3_minuteGoes E kv 2 [some (vr f), some (vi (nI p))] [] V := by
  intro r
  induction r with
  | zero =>
    intro p V hp hFr hB
    have : p = 96 := by omega
    subst this
    exact b3_minuteGoes_2 hC hF ⟨fun _ => h V hFr hB, fun q => absurd q (by decide)⟩
  | succ r ih =>
    intro p V hp hFr hB
    refine b3_minuteGoes_2 hC hF ⟨fun q => absurd q ?_, fun _ => ?_⟩
    · simp (disch := omega) only [lle_n]; omega
    · simp (disch := omega) only [nI_clamp, nI_1]
      rw [hFr (f + 1) (by simp), fv_st V0 f (by omega)]
      refine ⟨vp_n (by omega) (by decide), fun q => ⟨vp_n (by omega) (by decide), ih (p + 1) _ (by omega) (hFr.up (by simp)) fun i hi => ?_⟩, fun q => ⟨vp_n (by omega) (by decide), ih (p + 1) _ (by omega) (hFr.up (by simp)) fun i hi => ?_⟩⟩
      · rw [up2_r]
        by_cases hip : i = p
        · subst hip; rw [upd_s]; exact ⟨fun _ => q, fun _ => rfl⟩
        · rw [upd_n hip]; exact hB i (by omega)
      · rw [up2_r]
        by_cases hip : i = p
        · subst hip; rw [upd_s]; exact ⟨fun z => absurd z (by decide), fun z => absurd q z⟩
        · rw [upd_n hip]; exact hB i (by omega)
theorem s3_minuteGoes (hC : CM E tl) (hF : FO E f) (hB : CB V) (hb : Bl (fv V f)) (hL : LC E tl L V) (hf : 19 ≤ f) (ht : f + 29 ≤ tl ∧ 107 ≤ tl) (hg : f + 29 ≤ 245)
    (h : ∀ V', fv V' f = minuteA L (V 17) (fv V f) → Fz f V V' → kv V') : c3_minuteGoes E f V kv := by
  refine n3_minuteGoes (b3_minuteGoes_0 hC hF (cminute_loop1 hC hF (fun V1 hF1 hB1 => ?_) 96 0 V rfl Fr.rf (fun i hi => absurd hi (by omega))))
  have a1 : Fz f V V1 := fun o ho _ => hF1 o (by simp; omega)
  have e1 : fv V1 f = fv V f := fv_fr fun o _ _ h2 _ => hF1 o (by simp; exact h2)
  refine cminute_loop2 (N := fv V f) hC hF (Fz.cb hB a1 hf) (by rw [e1]; exact hb) (hL.of (a1.lk ht hg)) hf ht hg hB1 (fun V2 e2 a2 => ?_) 96 0 V1 rfl rfl Fc.rf
  refine h _ ?_ ((a1.tr a2.fd).up (by omega))
  rw [fv_um, fv_m V2 f, e2, e1, a1 17 (by omega) (by omega)]
  rfl
theorem cgoes_loop {n : Nat} {V0 : vT} (hC : CM E tl) (hF : FO E f) (hB : CB V0) (hL : LC E tl L V0) (hf : 19 ≤ f) (ht : f + 29 ≤ tl ∧ 107 ≤ tl) (hg : f + 29 ≤ 245) (hn : n < 2 ^ 31)
    (h : ∀ V', fv V' f = minutesA L (V0 17) n (fv V0 f) → Fz f V0 V' → kv V') :
    ∀ r i (V : vT), i + r = n → minutesA L (V0 17) r (fv V f) = minutesA L (V0 17) n (fv V0 f) → Bl (fv V f) → Fz f V0 V → w3_goes E f kv 2 [some (vr f), some (vi (nI n)), some (vi (nI i))] [] V := by
  intro r
  induction r with
  | zero =>
    intro i V hi h1 hb h3
    have : i = n := by omega
    subst this
    exact b3_goes_2 hC hF ⟨fun _ => h V h1 h3, fun q => absurd q (Int32.not_lt.mpr (nI_le (Nat.le_refl _) hn))⟩
  | succ r ih =>
    intro i V hi h1 hb h3
    refine b3_goes_2 hC hF ⟨fun q => absurd q (nI_ge (by omega) hn), fun _ => ?_⟩
    rw [fv_m V f]
    refine ⟨fun q => h V ?_ h3, fun q => s3_minuteGoes hC hF (Fz.cb hB h3 hf) hb (hL.of (h3.lk ht hg)) hf ht hg fun V1 e1 a1 => ?_⟩
    · rw [← h1]; simp only [minutesA]; rw [if_neg (Int32.not_lt.mpr q)]
    · rw [nI_1]
      refine ih (i + 1) V1 (by omega) ?_ (by rw [e1]; exact hb.minute) (h3.tr a1)
      rw [← h1, e1, h3 17 (by omega) (by omega)]
      simp only [minutesA]
      rw [if_pos q]
theorem s3_goes {n : Nat} (hC : CM E tl) (hF : FO E f) (hB : CB V) (hb : Bl (fv V f)) (hL : LC E tl L V) (hf : 19 ≤ f) (ht : f + 29 ≤ tl ∧ 107 ≤ tl) (hg : f + 29 ≤ 245) (hn : n < 2 ^ 31)
    (h : ∀ V', fv V' f = minutesA L (V 17) n (fv V f) → Fz f V V' → kv V') : c3_goes E f (nI n) V kv :=
  n3_goes (b3_goes_0 hC hF (cgoes_loop hC hF hB hL hf ht hg hn h n 0 V (by omega) rfl hb Fz.rf))
end C0b
